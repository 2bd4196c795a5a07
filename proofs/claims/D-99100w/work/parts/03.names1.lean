/-! java/util/AbstractCollection -/
set_option maxRecDepth 100000
def RJ0 : String := "java/util/AbstractCollection"
abbrev cJ0_init : ByteArray := prog_34_method_1_code
def yJ0_init : MethodName := ⟨RJ0, "<init>", "()V"⟩
theorem dJ0_init_0 : decode cJ0_init 0 = .ok (.aload_n 0, 1) := by decide +kernel
theorem dJ0_init_1 : decode cJ0_init 1 = .ok (.invokespecial 1, 3) := by decide +kernel
theorem dJ0_init_4 : decode cJ0_init 4 = .ok (.return_, 1) := by decide +kernel
theorem q148 : (Jvm.Cond.initialized "java/util/AbstractCollection") ∈ lw_all := lw_g (lw_at lw_m1 6 rfl) rfl
theorem q271 : (Jvm.Cond.instanceMethod ({ cls := "java/util/AbstractCollection", name := "<init>", desc := "()V" } : Jvm.MethodName)) ∈ lw_all := lw_g (lw_at lw_m1 129 rfl) rfl
theorem q272 : (Jvm.Cond.code ({ cls := "java/util/AbstractCollection", name := "<init>", desc := "()V" } : Jvm.MethodName) prog_34_method_1_code (1 : Nat) (Option.none : Option Jvm.ClassFile.FieldType)) ∈ lw_all := lw_g (lw_at lw_m1 130 rfl) rfl
theorem q273 : (Jvm.Cond.methodLink "java/util/AbstractCollection" (1 : Nat) ({ cls := "java/lang/Object", name := "<init>", desc := "()V" } : Jvm.MethodName)) ∈ lw_all := lw_g (lw_at lw_m1 131 rfl) rfl
/-! java/util/AbstractList -/
set_option maxRecDepth 100000
def RJ1 : String := "java/util/AbstractList"
abbrev cJ1_init : ByteArray := prog_35_method_1_code
def yJ1_init : MethodName := ⟨RJ1, "<init>", "()V"⟩
def dkwJ1_init_0 : List UInt8 := [42, 183, 0, 1, 42, 3, 181, 0, 7, 177]
abbrev dktJ1_init_0 : List UInt8 := dkwJ1_init_0 ++ []
theorem dksJ1_init_0 : cJ1_init.data.toList.drop 0 = dktJ1_init_0 := by decide +kernel
theorem dJ1_init_0 : decode cJ1_init 0 = .ok (.aload_n 0, 1) := dk_42 (dk_at dksJ1_init_0 0 rfl rfl)
theorem dJ1_init_1 : decode cJ1_init 1 = .ok (.invokespecial 1, 3) := dk_183 0 1 (dk_at dksJ1_init_0 1 rfl rfl)
theorem dJ1_init_4 : decode cJ1_init 4 = .ok (.aload_n 0, 1) := dk_42 (dk_at dksJ1_init_0 4 rfl rfl)
theorem dJ1_init_5 : decode cJ1_init 5 = .ok (.iconst 0, 1) := dk_3 (dk_at dksJ1_init_0 5 rfl rfl)
theorem dJ1_init_6 : decode cJ1_init 6 = .ok (.putfield 7, 3) := dk_181 0 7 (dk_at dksJ1_init_0 6 rfl rfl)
theorem dJ1_init_9 : decode cJ1_init 9 = .ok (.return_, 1) := dk_177 (dk_at dksJ1_init_0 9 rfl rfl)
theorem q149 : (Jvm.Cond.initialized "java/util/AbstractList") ∈ lw_all := lw_g (lw_at lw_m1 7 rfl) rfl
theorem q268 : (Jvm.Cond.instanceMethod ({ cls := "java/util/AbstractList", name := "<init>", desc := "()V" } : Jvm.MethodName)) ∈ lw_all := lw_g (lw_at lw_m1 126 rfl) rfl
theorem q269 : (Jvm.Cond.code ({ cls := "java/util/AbstractList", name := "<init>", desc := "()V" } : Jvm.MethodName) prog_35_method_1_code (1 : Nat) (Option.none : Option Jvm.ClassFile.FieldType)) ∈ lw_all := lw_g (lw_at lw_m1 127 rfl) rfl
theorem q270 : (Jvm.Cond.methodLink "java/util/AbstractList" (1 : Nat) ({ cls := "java/util/AbstractCollection", name := "<init>", desc := "()V" } : Jvm.MethodName)) ∈ lw_all := lw_g (lw_at lw_m1 128 rfl) rfl
theorem q278 : (Jvm.Cond.fieldLink "java/util/AbstractList" (7 : Nat) "java/util/AbstractList" "modCount" "I") ∈ lw_all := lw_g (lw_at lw_m1 136 rfl) rfl
theorem q286 : (Jvm.Cond.soleField "java/util/AbstractList" "modCount") ∈ lw_all := lw_g (lw_at lw_m1 144 rfl) rfl
/-! java/util/ArrayList -/
set_option maxRecDepth 100000
def RJ2 : String := "java/util/ArrayList"
def TJ2 : u_T := fun k => match k with
  | 0 => ("java/util/AbstractList", "modCount", "I", false)
  | 1 => ("java/util/ArrayList", "elementData", "[Ljava/lang/Object;", false)
  | _ => ("java/util/ArrayList", "size", "I", false)
def tyJ2 : Nat → FieldType := fun k => match k with
  | 0 => .int
  | 1 => .array (.object "java/lang/Object")
  | _ => .int
abbrev wsJ20 : List Cond := u_ws RJ2 TJ2 3
theorem nmJ2 : ∀ a, a < 3 → ∀ b, b < 3 → a ≠ b → (TJ2 a).2.1 ≠ (TJ2 b).2.1 := by decide +kernel
theorem tyJ2_ok : ∀ k, k < 3 → parseFieldDescriptor (TJ2 k).2.2.1 = some (tyJ2 k) := by decide +kernel
abbrev cJ2_init : ByteArray := prog_36_method_2_code
def yJ2_init : MethodName := ⟨RJ2, "<init>", "()V"⟩
def dkwJ2_init_0 : List UInt8 := [42, 183, 0, 1, 42, 178, 0, 39, 181, 0, 9, 177]
abbrev dktJ2_init_0 : List UInt8 := dkwJ2_init_0 ++ []
theorem dksJ2_init_0 : cJ2_init.data.toList.drop 0 = dktJ2_init_0 := by decide +kernel
theorem dJ2_init_0 : decode cJ2_init 0 = .ok (.aload_n 0, 1) := dk_42 (dk_at dksJ2_init_0 0 rfl rfl)
theorem dJ2_init_1 : decode cJ2_init 1 = .ok (.invokespecial 1, 3) := dk_183 0 1 (dk_at dksJ2_init_0 1 rfl rfl)
theorem dJ2_init_4 : decode cJ2_init 4 = .ok (.aload_n 0, 1) := dk_42 (dk_at dksJ2_init_0 4 rfl rfl)
theorem dJ2_init_5 : decode cJ2_init 5 = .ok (.getstatic 39, 3) := dk_178 0 39 (dk_at dksJ2_init_0 5 rfl rfl)
theorem dJ2_init_8 : decode cJ2_init 8 = .ok (.putfield 9, 3) := dk_181 0 9 (dk_at dksJ2_init_0 8 rfl rfl)
theorem dJ2_init_11 : decode cJ2_init 11 = .ok (.return_, 1) := dk_177 (dk_at dksJ2_init_0 11 rfl rfl)
abbrev cJ2_size : ByteArray := prog_36_method_8_code
def yJ2_size : MethodName := ⟨RJ2, "size", "()I"⟩
theorem dJ2_size_0 : decode cJ2_size 0 = .ok (.aload_n 0, 1) := by decide +kernel
theorem dJ2_size_1 : decode cJ2_size 1 = .ok (.getfield 48, 3) := by decide +kernel
theorem dJ2_size_4 : decode cJ2_size 4 = .ok (.ireturn, 1) := by decide +kernel
abbrev cJ2_add : ByteArray := prog_36_method_25_code
def yJ2_add : MethodName := ⟨RJ2, "add", "(Ljava/lang/Object;)Z"⟩
def dkwJ2_add_1 : List UInt8 := [172]
abbrev dktJ2_add_1 : List UInt8 := dkwJ2_add_1 ++ []
def dkwJ2_add_0 : List UInt8 := [42, 89, 180, 0, 63, 4, 96, 181, 0, 63, 42, 43, 42, 180, 0, 9, 42, 180, 0, 48, 182, 0, 131, 4]
abbrev dktJ2_add_0 : List UInt8 := dkwJ2_add_0 ++ dktJ2_add_1
theorem dksJ2_add_0 : cJ2_add.data.toList.drop 0 = dktJ2_add_0 := by decide +kernel
theorem dksJ2_add_1 : cJ2_add.data.toList.drop 24 = dktJ2_add_1 := dk_seg dksJ2_add_0 24 rfl rfl
theorem dJ2_add_0 : decode cJ2_add 0 = .ok (.aload_n 0, 1) := dk_42 (dk_at dksJ2_add_0 0 rfl rfl)
theorem dJ2_add_1 : decode cJ2_add 1 = .ok (.dup, 1) := dk_89 (dk_at dksJ2_add_0 1 rfl rfl)
theorem dJ2_add_2 : decode cJ2_add 2 = .ok (.getfield 63, 3) := dk_180 0 63 (dk_at dksJ2_add_0 2 rfl rfl)
theorem dJ2_add_5 : decode cJ2_add 5 = .ok (.iconst 1, 1) := dk_4 (dk_at dksJ2_add_0 5 rfl rfl)
theorem dJ2_add_6 : decode cJ2_add 6 = .ok (.iadd, 1) := dk_96 (dk_at dksJ2_add_0 6 rfl rfl)
theorem dJ2_add_7 : decode cJ2_add 7 = .ok (.putfield 63, 3) := dk_181 0 63 (dk_at dksJ2_add_0 7 rfl rfl)
theorem dJ2_add_10 : decode cJ2_add 10 = .ok (.aload_n 0, 1) := dk_42 (dk_at dksJ2_add_0 10 rfl rfl)
theorem dJ2_add_11 : decode cJ2_add 11 = .ok (.aload_n 1, 1) := dk_43 (dk_at dksJ2_add_0 11 rfl rfl)
theorem dJ2_add_12 : decode cJ2_add 12 = .ok (.aload_n 0, 1) := dk_42 (dk_at dksJ2_add_0 12 rfl rfl)
theorem dJ2_add_13 : decode cJ2_add 13 = .ok (.getfield 9, 3) := dk_180 0 9 (dk_at dksJ2_add_0 13 rfl rfl)
theorem dJ2_add_16 : decode cJ2_add 16 = .ok (.aload_n 0, 1) := dk_42 (dk_at dksJ2_add_0 16 rfl rfl)
theorem dJ2_add_17 : decode cJ2_add 17 = .ok (.getfield 48, 3) := dk_180 0 48 (dk_at dksJ2_add_0 17 rfl rfl)
theorem dJ2_add_20 : decode cJ2_add 20 = .ok (.invokevirtual 131, 3) := dk_182 0 131 (dk_at dksJ2_add_0 20 rfl rfl)
theorem dJ2_add_23 : decode cJ2_add 23 = .ok (.iconst 1, 1) := dk_4 (dk_at dksJ2_add_0 23 rfl rfl)
theorem dJ2_add_24 : decode cJ2_add 24 = .ok (.ireturn, 1) := dk_172 (dk_at dksJ2_add_1 0 rfl rfl)
abbrev cJ2_add_2 : ByteArray := prog_36_method_24_code
def yJ2_add_2 : MethodName := ⟨RJ2, "add", "(Ljava/lang/Object;[Ljava/lang/Object;I)V"⟩
def dkwJ2_add_2_0 : List UInt8 := [29, 44, 190, 160, 0, 8, 42, 182, 0, 129, 77, 44, 29, 43, 83, 42, 29, 4, 96, 181, 0, 48, 177]
abbrev dktJ2_add_2_0 : List UInt8 := dkwJ2_add_2_0 ++ []
theorem dksJ2_add_2_0 : cJ2_add_2.data.toList.drop 0 = dktJ2_add_2_0 := by decide +kernel
theorem dJ2_add_2_0 : decode cJ2_add_2 0 = .ok (.iload_n 3, 1) := dk_29 (dk_at dksJ2_add_2_0 0 rfl rfl)
theorem dJ2_add_2_1 : decode cJ2_add_2 1 = .ok (.aload_n 2, 1) := dk_44 (dk_at dksJ2_add_2_0 1 rfl rfl)
theorem dJ2_add_2_2 : decode cJ2_add_2 2 = .ok (.arraylength, 1) := dk_190 (dk_at dksJ2_add_2_0 2 rfl rfl)
theorem dJ2_add_2_3 : decode cJ2_add_2 3 = .ok (.if_icmp .ne 8, 3) := dk_160 0 8 (dk_at dksJ2_add_2_0 3 rfl rfl)
theorem dJ2_add_2_6 : decode cJ2_add_2 6 = .ok (.aload_n 0, 1) := dk_42 (dk_at dksJ2_add_2_0 6 rfl rfl)
theorem dJ2_add_2_7 : decode cJ2_add_2 7 = .ok (.invokevirtual 129, 3) := dk_182 0 129 (dk_at dksJ2_add_2_0 7 rfl rfl)
theorem dJ2_add_2_10 : decode cJ2_add_2 10 = .ok (.astore_n 2, 1) := dk_77 (dk_at dksJ2_add_2_0 10 rfl rfl)
theorem dJ2_add_2_11 : decode cJ2_add_2 11 = .ok (.aload_n 2, 1) := dk_44 (dk_at dksJ2_add_2_0 11 rfl rfl)
theorem dJ2_add_2_12 : decode cJ2_add_2 12 = .ok (.iload_n 3, 1) := dk_29 (dk_at dksJ2_add_2_0 12 rfl rfl)
theorem dJ2_add_2_13 : decode cJ2_add_2 13 = .ok (.aload_n 1, 1) := dk_43 (dk_at dksJ2_add_2_0 13 rfl rfl)
theorem dJ2_add_2_14 : decode cJ2_add_2 14 = .ok (.aastore, 1) := dk_83 (dk_at dksJ2_add_2_0 14 rfl rfl)
theorem dJ2_add_2_15 : decode cJ2_add_2 15 = .ok (.aload_n 0, 1) := dk_42 (dk_at dksJ2_add_2_0 15 rfl rfl)
theorem dJ2_add_2_16 : decode cJ2_add_2 16 = .ok (.iload_n 3, 1) := dk_29 (dk_at dksJ2_add_2_0 16 rfl rfl)
theorem dJ2_add_2_17 : decode cJ2_add_2 17 = .ok (.iconst 1, 1) := dk_4 (dk_at dksJ2_add_2_0 17 rfl rfl)
theorem dJ2_add_2_18 : decode cJ2_add_2 18 = .ok (.iadd, 1) := dk_96 (dk_at dksJ2_add_2_0 18 rfl rfl)
theorem dJ2_add_2_19 : decode cJ2_add_2 19 = .ok (.putfield 48, 3) := dk_181 0 48 (dk_at dksJ2_add_2_0 19 rfl rfl)
theorem dJ2_add_2_22 : decode cJ2_add_2 22 = .ok (.return_, 1) := dk_177 (dk_at dksJ2_add_2_0 22 rfl rfl)
abbrev cJ2_grow : ByteArray := prog_36_method_7_code
def yJ2_grow : MethodName := ⟨RJ2, "grow", "()[Ljava/lang/Object;"⟩
def dkwJ2_grow_0 : List UInt8 := [42, 42, 180, 0, 48, 4, 96, 182, 0, 69, 176]
abbrev dktJ2_grow_0 : List UInt8 := dkwJ2_grow_0 ++ []
theorem dksJ2_grow_0 : cJ2_grow.data.toList.drop 0 = dktJ2_grow_0 := by decide +kernel
theorem dJ2_grow_0 : decode cJ2_grow 0 = .ok (.aload_n 0, 1) := dk_42 (dk_at dksJ2_grow_0 0 rfl rfl)
theorem dJ2_grow_1 : decode cJ2_grow 1 = .ok (.aload_n 0, 1) := dk_42 (dk_at dksJ2_grow_0 1 rfl rfl)
theorem dJ2_grow_2 : decode cJ2_grow 2 = .ok (.getfield 48, 3) := dk_180 0 48 (dk_at dksJ2_grow_0 2 rfl rfl)
theorem dJ2_grow_5 : decode cJ2_grow 5 = .ok (.iconst 1, 1) := dk_4 (dk_at dksJ2_grow_0 5 rfl rfl)
theorem dJ2_grow_6 : decode cJ2_grow 6 = .ok (.iadd, 1) := dk_96 (dk_at dksJ2_grow_0 6 rfl rfl)
theorem dJ2_grow_7 : decode cJ2_grow 7 = .ok (.invokevirtual 69, 3) := dk_182 0 69 (dk_at dksJ2_grow_0 7 rfl rfl)
theorem dJ2_grow_10 : decode cJ2_grow 10 = .ok (.areturn, 1) := dk_176 (dk_at dksJ2_grow_0 10 rfl rfl)
abbrev cJ2_grow_2 : ByteArray := prog_36_method_6_code
def yJ2_grow_2 : MethodName := ⟨RJ2, "grow", "(I)[Ljava/lang/Object;"⟩
def dkwJ2_grow_2_2 : List UInt8 := [27, 184, 0, 79, 189, 0, 7, 90, 181, 0, 9, 176]
abbrev dktJ2_grow_2_2 : List UInt8 := dkwJ2_grow_2_2 ++ []
def dkwJ2_grow_2_1 : List UInt8 := [28, 4, 122, 184, 0, 73, 62, 42, 42, 180, 0, 9, 29, 184, 0, 66, 90, 181, 0, 9, 176, 42, 16, 10]
abbrev dktJ2_grow_2_1 : List UInt8 := dkwJ2_grow_2_1 ++ dktJ2_grow_2_2
def dkwJ2_grow_2_0 : List UInt8 := [42, 180, 0, 9, 190, 61, 28, 157, 0, 13, 42, 180, 0, 9, 178, 0, 39, 165, 0, 28, 28, 27, 28, 100]
abbrev dktJ2_grow_2_0 : List UInt8 := dkwJ2_grow_2_0 ++ dktJ2_grow_2_1
theorem dksJ2_grow_2_0 : cJ2_grow_2.data.toList.drop 0 = dktJ2_grow_2_0 := by decide +kernel
theorem dksJ2_grow_2_1 : cJ2_grow_2.data.toList.drop 24 = dktJ2_grow_2_1 := dk_seg dksJ2_grow_2_0 24 rfl rfl
theorem dksJ2_grow_2_2 : cJ2_grow_2.data.toList.drop 48 = dktJ2_grow_2_2 := dk_seg dksJ2_grow_2_1 24 rfl rfl
theorem dJ2_grow_2_0 : decode cJ2_grow_2 0 = .ok (.aload_n 0, 1) := dk_42 (dk_at dksJ2_grow_2_0 0 rfl rfl)
theorem dJ2_grow_2_1 : decode cJ2_grow_2 1 = .ok (.getfield 9, 3) := dk_180 0 9 (dk_at dksJ2_grow_2_0 1 rfl rfl)
theorem dJ2_grow_2_4 : decode cJ2_grow_2 4 = .ok (.arraylength, 1) := dk_190 (dk_at dksJ2_grow_2_0 4 rfl rfl)
theorem dJ2_grow_2_5 : decode cJ2_grow_2 5 = .ok (.istore_n 2, 1) := dk_61 (dk_at dksJ2_grow_2_0 5 rfl rfl)
theorem dJ2_grow_2_6 : decode cJ2_grow_2 6 = .ok (.iload_n 2, 1) := dk_28 (dk_at dksJ2_grow_2_0 6 rfl rfl)
theorem dJ2_grow_2_7 : decode cJ2_grow_2 7 = .ok (.ifCond .gt 13, 3) := dk_157 0 13 (dk_at dksJ2_grow_2_0 7 rfl rfl)
theorem dJ2_grow_2_10 : decode cJ2_grow_2 10 = .ok (.aload_n 0, 1) := dk_42 (dk_at dksJ2_grow_2_0 10 rfl rfl)
theorem dJ2_grow_2_11 : decode cJ2_grow_2 11 = .ok (.getfield 9, 3) := dk_180 0 9 (dk_at dksJ2_grow_2_0 11 rfl rfl)
theorem dJ2_grow_2_14 : decode cJ2_grow_2 14 = .ok (.getstatic 39, 3) := dk_178 0 39 (dk_at dksJ2_grow_2_0 14 rfl rfl)
theorem dJ2_grow_2_17 : decode cJ2_grow_2 17 = .ok (.if_acmp .eq 28, 3) := dk_165 0 28 (dk_at dksJ2_grow_2_0 17 rfl rfl)
theorem dJ2_grow_2_20 : decode cJ2_grow_2 20 = .ok (.iload_n 2, 1) := dk_28 (dk_at dksJ2_grow_2_0 20 rfl rfl)
theorem dJ2_grow_2_21 : decode cJ2_grow_2 21 = .ok (.iload_n 1, 1) := dk_27 (dk_at dksJ2_grow_2_0 21 rfl rfl)
theorem dJ2_grow_2_22 : decode cJ2_grow_2 22 = .ok (.iload_n 2, 1) := dk_28 (dk_at dksJ2_grow_2_0 22 rfl rfl)
theorem dJ2_grow_2_23 : decode cJ2_grow_2 23 = .ok (.isub, 1) := dk_100 (dk_at dksJ2_grow_2_0 23 rfl rfl)
theorem dJ2_grow_2_24 : decode cJ2_grow_2 24 = .ok (.iload_n 2, 1) := dk_28 (dk_at dksJ2_grow_2_1 0 rfl rfl)
theorem dJ2_grow_2_25 : decode cJ2_grow_2 25 = .ok (.iconst 1, 1) := dk_4 (dk_at dksJ2_grow_2_1 1 rfl rfl)
theorem dJ2_grow_2_26 : decode cJ2_grow_2 26 = .ok (.ishr, 1) := dk_122 (dk_at dksJ2_grow_2_1 2 rfl rfl)
theorem dJ2_grow_2_27 : decode cJ2_grow_2 27 = .ok (.invokestatic 73, 3) := dk_184 0 73 (dk_at dksJ2_grow_2_1 3 rfl rfl)
theorem dJ2_grow_2_30 : decode cJ2_grow_2 30 = .ok (.istore_n 3, 1) := dk_62 (dk_at dksJ2_grow_2_1 6 rfl rfl)
theorem dJ2_grow_2_31 : decode cJ2_grow_2 31 = .ok (.aload_n 0, 1) := dk_42 (dk_at dksJ2_grow_2_1 7 rfl rfl)
theorem dJ2_grow_2_32 : decode cJ2_grow_2 32 = .ok (.aload_n 0, 1) := dk_42 (dk_at dksJ2_grow_2_1 8 rfl rfl)
theorem dJ2_grow_2_33 : decode cJ2_grow_2 33 = .ok (.getfield 9, 3) := dk_180 0 9 (dk_at dksJ2_grow_2_1 9 rfl rfl)
theorem dJ2_grow_2_36 : decode cJ2_grow_2 36 = .ok (.iload_n 3, 1) := dk_29 (dk_at dksJ2_grow_2_1 12 rfl rfl)
theorem dJ2_grow_2_37 : decode cJ2_grow_2 37 = .ok (.invokestatic 66, 3) := dk_184 0 66 (dk_at dksJ2_grow_2_1 13 rfl rfl)
theorem dJ2_grow_2_40 : decode cJ2_grow_2 40 = .ok (.dup_x1, 1) := dk_90 (dk_at dksJ2_grow_2_1 16 rfl rfl)
theorem dJ2_grow_2_41 : decode cJ2_grow_2 41 = .ok (.putfield 9, 3) := dk_181 0 9 (dk_at dksJ2_grow_2_1 17 rfl rfl)
theorem dJ2_grow_2_44 : decode cJ2_grow_2 44 = .ok (.areturn, 1) := dk_176 (dk_at dksJ2_grow_2_1 20 rfl rfl)
theorem dJ2_grow_2_45 : decode cJ2_grow_2 45 = .ok (.aload_n 0, 1) := dk_42 (dk_at dksJ2_grow_2_1 21 rfl rfl)
theorem dJ2_grow_2_46 : decode cJ2_grow_2 46 = .ok (.bipush 10, 2) := dk_16 10 (dk_at dksJ2_grow_2_1 22 rfl rfl)
theorem dJ2_grow_2_48 : decode cJ2_grow_2 48 = .ok (.iload_n 1, 1) := dk_27 (dk_at dksJ2_grow_2_2 0 rfl rfl)
theorem dJ2_grow_2_49 : decode cJ2_grow_2 49 = .ok (.invokestatic 79, 3) := dk_184 0 79 (dk_at dksJ2_grow_2_2 1 rfl rfl)
theorem dJ2_grow_2_52 : decode cJ2_grow_2 52 = .ok (.anewarray 7, 3) := dk_189 0 7 (dk_at dksJ2_grow_2_2 4 rfl rfl)
theorem dJ2_grow_2_55 : decode cJ2_grow_2 55 = .ok (.dup_x1, 1) := dk_90 (dk_at dksJ2_grow_2_2 7 rfl rfl)
theorem dJ2_grow_2_56 : decode cJ2_grow_2 56 = .ok (.putfield 9, 3) := dk_181 0 9 (dk_at dksJ2_grow_2_2 8 rfl rfl)
theorem dJ2_grow_2_59 : decode cJ2_grow_2 59 = .ok (.areturn, 1) := dk_176 (dk_at dksJ2_grow_2_2 11 rfl rfl)
abbrev cJ2_get : ByteArray := prog_36_method_20_code
def yJ2_get : MethodName := ⟨RJ2, "get", "(I)Ljava/lang/Object;"⟩
def dkwJ2_get_0 : List UInt8 := [27, 42, 180, 0, 48, 184, 0, 118, 87, 42, 27, 182, 0, 123, 176]
abbrev dktJ2_get_0 : List UInt8 := dkwJ2_get_0 ++ []
theorem dksJ2_get_0 : cJ2_get.data.toList.drop 0 = dktJ2_get_0 := by decide +kernel
theorem dJ2_get_0 : decode cJ2_get 0 = .ok (.iload_n 1, 1) := dk_27 (dk_at dksJ2_get_0 0 rfl rfl)
theorem dJ2_get_1 : decode cJ2_get 1 = .ok (.aload_n 0, 1) := dk_42 (dk_at dksJ2_get_0 1 rfl rfl)
theorem dJ2_get_2 : decode cJ2_get 2 = .ok (.getfield 48, 3) := dk_180 0 48 (dk_at dksJ2_get_0 2 rfl rfl)
theorem dJ2_get_5 : decode cJ2_get 5 = .ok (.invokestatic 118, 3) := dk_184 0 118 (dk_at dksJ2_get_0 5 rfl rfl)
theorem dJ2_get_8 : decode cJ2_get 8 = .ok (.pop, 1) := dk_87 (dk_at dksJ2_get_0 8 rfl rfl)
theorem dJ2_get_9 : decode cJ2_get 9 = .ok (.aload_n 0, 1) := dk_42 (dk_at dksJ2_get_0 9 rfl rfl)
theorem dJ2_get_10 : decode cJ2_get 10 = .ok (.iload_n 1, 1) := dk_27 (dk_at dksJ2_get_0 10 rfl rfl)
theorem dJ2_get_11 : decode cJ2_get 11 = .ok (.invokevirtual 123, 3) := dk_182 0 123 (dk_at dksJ2_get_0 11 rfl rfl)
theorem dJ2_get_14 : decode cJ2_get 14 = .ok (.areturn, 1) := dk_176 (dk_at dksJ2_get_0 14 rfl rfl)
abbrev cJ2_elementData : ByteArray := prog_36_method_18_code
def yJ2_elementData : MethodName := ⟨RJ2, "elementData", "(I)Ljava/lang/Object;"⟩
def dkwJ2_elementData_0 : List UInt8 := [42, 180, 0, 9, 27, 50, 176]
abbrev dktJ2_elementData_0 : List UInt8 := dkwJ2_elementData_0 ++ []
theorem dksJ2_elementData_0 : cJ2_elementData.data.toList.drop 0 = dktJ2_elementData_0 := by decide +kernel
theorem dJ2_elementData_0 : decode cJ2_elementData 0 = .ok (.aload_n 0, 1) := dk_42 (dk_at dksJ2_elementData_0 0 rfl rfl)
theorem dJ2_elementData_1 : decode cJ2_elementData 1 = .ok (.getfield 9, 3) := dk_180 0 9 (dk_at dksJ2_elementData_0 1 rfl rfl)
theorem dJ2_elementData_4 : decode cJ2_elementData 4 = .ok (.iload_n 1, 1) := dk_27 (dk_at dksJ2_elementData_0 4 rfl rfl)
theorem dJ2_elementData_5 : decode cJ2_elementData 5 = .ok (.aaload, 1) := dk_50 (dk_at dksJ2_elementData_0 5 rfl rfl)
theorem dJ2_elementData_6 : decode cJ2_elementData 6 = .ok (.areturn, 1) := dk_176 (dk_at dksJ2_elementData_0 6 rfl rfl)
theorem q150 : (Jvm.Cond.initialized "java/util/ArrayList") ∈ lw_all := lw_g (lw_at lw_m1 8 rfl) rfl
theorem q263 : (Jvm.Cond.instantiable "java/util/ArrayList" (3 : Nat)) ∈ lw_all := lw_g (lw_at lw_m1 121 rfl) rfl
theorem q265 : (Jvm.Cond.instanceMethod ({ cls := "java/util/ArrayList", name := "<init>", desc := "()V" } : Jvm.MethodName)) ∈ lw_all := lw_g (lw_at lw_m1 123 rfl) rfl
theorem q266 : (Jvm.Cond.code ({ cls := "java/util/ArrayList", name := "<init>", desc := "()V" } : Jvm.MethodName) prog_36_method_2_code (1 : Nat) (Option.none : Option Jvm.ClassFile.FieldType)) ∈ lw_all := lw_g (lw_at lw_m1 124 rfl) rfl
theorem q267 : (Jvm.Cond.methodLink "java/util/ArrayList" (1 : Nat) ({ cls := "java/util/AbstractList", name := "<init>", desc := "()V" } : Jvm.MethodName)) ∈ lw_all := lw_g (lw_at lw_m1 125 rfl) rfl
theorem q274 : (Jvm.Cond.fieldLink "java/util/ArrayList" (39 : Nat) "java/util/ArrayList" "DEFAULTCAPACITY_EMPTY_ELEMENTDATA" "[Ljava/lang/Object;") ∈ lw_all := lw_g (lw_at lw_m1 132 rfl) rfl
theorem q275 : (Jvm.Cond.laysStatic "java/util/ArrayList" "DEFAULTCAPACITY_EMPTY_ELEMENTDATA" "[Ljava/lang/Object;") ∈ lw_tbl := lw_at lw_m1 133 rfl
theorem q276 : (Jvm.Cond.fieldLink "java/util/ArrayList" (9 : Nat) "java/util/ArrayList" "elementData" "[Ljava/lang/Object;") ∈ lw_all := lw_g (lw_at lw_m1 134 rfl) rfl
theorem q277 : (Jvm.Cond.fieldLink "java/util/ArrayList" (48 : Nat) "java/util/ArrayList" "size" "I") ∈ lw_all := lw_g (lw_at lw_m1 135 rfl) rfl
theorem q279 : (Jvm.Cond.fieldLink "java/util/ArrayList" (63 : Nat) "java/util/ArrayList" "modCount" "I") ∈ lw_all := lw_g (lw_at lw_m1 137 rfl) rfl
theorem q280 : (Jvm.Cond.sameField "java/util/ArrayList" "java/util/AbstractList" "modCount" "I") ∈ lw_all := lw_g (lw_at lw_m1 138 rfl) rfl
theorem q281 : (Jvm.Cond.lays "java/util/ArrayList" "java/util/ArrayList" "elementData" "[Ljava/lang/Object;") ∈ lw_all := lw_g (lw_at lw_m1 139 rfl) rfl
theorem q282 : (Jvm.Cond.soleField "java/util/ArrayList" "elementData") ∈ lw_all := lw_g (lw_at lw_m1 140 rfl) rfl
theorem q283 : (Jvm.Cond.lays "java/util/ArrayList" "java/util/ArrayList" "size" "I") ∈ lw_all := lw_g (lw_at lw_m1 141 rfl) rfl
theorem q284 : (Jvm.Cond.soleField "java/util/ArrayList" "size") ∈ lw_all := lw_g (lw_at lw_m1 142 rfl) rfl
theorem q285 : (Jvm.Cond.lays "java/util/ArrayList" "java/util/AbstractList" "modCount" "I") ∈ lw_all := lw_g (lw_at lw_m1 143 rfl) rfl
theorem q287 : (Jvm.Cond.superclass "java/util/ArrayList" "java/util/AbstractList") ∈ lw_all := lw_g (lw_at lw_m1 145 rfl) rfl
theorem q739 : (Jvm.Cond.instanceMethod ({ cls := "java/util/ArrayList", name := "size", desc := "()I" } : Jvm.MethodName)) ∈ lw_all := lw_g (lw_at lw_m3 117 rfl) rfl
theorem q740 : (Jvm.Cond.selects "java/util/ArrayList" ({ cls := "java/util/ArrayList", name := "size", desc := "()I" } : Jvm.MethodName) ({ cls := "java/util/ArrayList", name := "size", desc := "()I" } : Jvm.MethodName)) ∈ lw_all := lw_g (lw_at lw_m3 118 rfl) rfl
theorem q741 : (Jvm.Cond.code ({ cls := "java/util/ArrayList", name := "size", desc := "()I" } : Jvm.MethodName) prog_36_method_8_code (1 : Nat) (Option.some Jvm.ClassFile.FieldType.int)) ∈ lw_all := lw_g (lw_at lw_m3 119 rfl) rfl
theorem q847 : (Jvm.Cond.instanceMethod ({ cls := "java/util/ArrayList", name := "add", desc := "(Ljava/lang/Object;)Z" } : Jvm.MethodName)) ∈ lw_all := lw_g (lw_at lw_m3 225 rfl) rfl
theorem q848 : (Jvm.Cond.selects "java/util/ArrayList" ({ cls := "java/util/ArrayList", name := "add", desc := "(Ljava/lang/Object;)Z" } : Jvm.MethodName) ({ cls := "java/util/ArrayList", name := "add", desc := "(Ljava/lang/Object;)Z" } : Jvm.MethodName)) ∈ lw_all := lw_g (lw_at lw_m3 226 rfl) rfl
theorem q849 : (Jvm.Cond.code ({ cls := "java/util/ArrayList", name := "add", desc := "(Ljava/lang/Object;)Z" } : Jvm.MethodName) prog_36_method_25_code (2 : Nat) (Option.some Jvm.ClassFile.FieldType.boolean)) ∈ lw_all := lw_g (lw_at lw_m3 227 rfl) rfl
theorem q850 : (Jvm.Cond.methodLink "java/util/ArrayList" (131 : Nat) ({ cls := "java/util/ArrayList", name := "add", desc := "(Ljava/lang/Object;[Ljava/lang/Object;I)V" } : Jvm.MethodName)) ∈ lw_all := lw_g (lw_at lw_m3 228 rfl) rfl
theorem q851 : (Jvm.Cond.privateMethod ({ cls := "java/util/ArrayList", name := "add", desc := "(Ljava/lang/Object;[Ljava/lang/Object;I)V" } : Jvm.MethodName)) ∈ lw_tbl := lw_at lw_m3 229 rfl
theorem q852 : (Jvm.Cond.instanceMethod ({ cls := "java/util/ArrayList", name := "add", desc := "(Ljava/lang/Object;[Ljava/lang/Object;I)V" } : Jvm.MethodName)) ∈ lw_all := lw_g (lw_at lw_m3 230 rfl) rfl
theorem q853 : (Jvm.Cond.code ({ cls := "java/util/ArrayList", name := "add", desc := "(Ljava/lang/Object;[Ljava/lang/Object;I)V" } : Jvm.MethodName) prog_36_method_24_code (4 : Nat) (Option.none : Option Jvm.ClassFile.FieldType)) ∈ lw_all := lw_g (lw_at lw_m3 231 rfl) rfl
theorem q854 : (Jvm.Cond.methodLink "java/util/ArrayList" (129 : Nat) ({ cls := "java/util/ArrayList", name := "grow", desc := "()[Ljava/lang/Object;" } : Jvm.MethodName)) ∈ lw_all := lw_g (lw_at lw_m3 232 rfl) rfl
theorem q855 : (Jvm.Cond.privateMethod ({ cls := "java/util/ArrayList", name := "grow", desc := "()[Ljava/lang/Object;" } : Jvm.MethodName)) ∈ lw_tbl := lw_at lw_m3 233 rfl
theorem q856 : (Jvm.Cond.instanceMethod ({ cls := "java/util/ArrayList", name := "grow", desc := "()[Ljava/lang/Object;" } : Jvm.MethodName)) ∈ lw_all := lw_g (lw_at lw_m3 234 rfl) rfl
theorem q857 : (Jvm.Cond.code ({ cls := "java/util/ArrayList", name := "grow", desc := "()[Ljava/lang/Object;" } : Jvm.MethodName) prog_36_method_7_code (1 : Nat) (Option.some (Jvm.ClassFile.FieldType.array (Jvm.ClassFile.FieldType.object "java/lang/Object")))) ∈ lw_all := lw_g (lw_at lw_m3 235 rfl) rfl
theorem q858 : (Jvm.Cond.methodLink "java/util/ArrayList" (69 : Nat) ({ cls := "java/util/ArrayList", name := "grow", desc := "(I)[Ljava/lang/Object;" } : Jvm.MethodName)) ∈ lw_all := lw_g (lw_at lw_m3 236 rfl) rfl
theorem q859 : (Jvm.Cond.privateMethod ({ cls := "java/util/ArrayList", name := "grow", desc := "(I)[Ljava/lang/Object;" } : Jvm.MethodName)) ∈ lw_tbl := lw_at lw_m3 237 rfl
theorem q860 : (Jvm.Cond.instanceMethod ({ cls := "java/util/ArrayList", name := "grow", desc := "(I)[Ljava/lang/Object;" } : Jvm.MethodName)) ∈ lw_all := lw_g (lw_at lw_m3 238 rfl) rfl
theorem q861 : (Jvm.Cond.code ({ cls := "java/util/ArrayList", name := "grow", desc := "(I)[Ljava/lang/Object;" } : Jvm.MethodName) prog_36_method_6_code (4 : Nat) (Option.some (Jvm.ClassFile.FieldType.array (Jvm.ClassFile.FieldType.object "java/lang/Object")))) ∈ lw_all := lw_g (lw_at lw_m3 239 rfl) rfl
theorem q862 : (Jvm.Cond.methodLink "java/util/ArrayList" (73 : Nat) ({ cls := "jdk/internal/util/ArraysSupport", name := "newLength", desc := "(III)I" } : Jvm.MethodName)) ∈ lw_all := lw_g (lw_at lw_m4 0 rfl) rfl
theorem q872 : (Jvm.Cond.methodLink "java/util/ArrayList" (66 : Nat) ({ cls := "java/util/Arrays", name := "copyOf", desc := "([Ljava/lang/Object;I)[Ljava/lang/Object;" } : Jvm.MethodName)) ∈ lw_all := lw_g (lw_at lw_m4 10 rfl) rfl
theorem q893 : (Jvm.Cond.selects "java/util/ArrayList" ({ cls := "java/lang/Object", name := "getClass", desc := "()Ljava/lang/Class;" } : Jvm.MethodName) ({ cls := "java/lang/Object", name := "getClass", desc := "()Ljava/lang/Class;" } : Jvm.MethodName)) ∈ lw_all := lw_g (lw_at lw_m4 31 rfl) rfl
theorem q907 : (Jvm.Cond.methodLink "java/util/ArrayList" (79 : Nat) ({ cls := "java/lang/Math", name := "max", desc := "(II)I" } : Jvm.MethodName)) ∈ lw_all := lw_g (lw_at lw_m4 45 rfl) rfl
theorem q908 : (Jvm.Cond.classLink "java/util/ArrayList" (7 : Nat) "java/lang/Object") ∈ lw_all := lw_g (lw_at lw_m4 46 rfl) rfl
theorem q1061 : (Jvm.Cond.instanceMethod ({ cls := "java/util/ArrayList", name := "get", desc := "(I)Ljava/lang/Object;" } : Jvm.MethodName)) ∈ lw_all := lw_g (lw_at lw_m4 199 rfl) rfl
theorem q1062 : (Jvm.Cond.selects "java/util/ArrayList" ({ cls := "java/util/ArrayList", name := "get", desc := "(I)Ljava/lang/Object;" } : Jvm.MethodName) ({ cls := "java/util/ArrayList", name := "get", desc := "(I)Ljava/lang/Object;" } : Jvm.MethodName)) ∈ lw_all := lw_g (lw_at lw_m4 200 rfl) rfl
theorem q1063 : (Jvm.Cond.code ({ cls := "java/util/ArrayList", name := "get", desc := "(I)Ljava/lang/Object;" } : Jvm.MethodName) prog_36_method_20_code (2 : Nat) (Option.some (Jvm.ClassFile.FieldType.object "java/lang/Object"))) ∈ lw_all := lw_g (lw_at lw_m4 201 rfl) rfl
theorem q1064 : (Jvm.Cond.methodLink "java/util/ArrayList" (118 : Nat) ({ cls := "java/util/Objects", name := "checkIndex", desc := "(II)I" } : Jvm.MethodName)) ∈ lw_all := lw_g (lw_at lw_m4 202 rfl) rfl
theorem q1068 : (Jvm.Cond.methodLink "java/util/ArrayList" (123 : Nat) ({ cls := "java/util/ArrayList", name := "elementData", desc := "(I)Ljava/lang/Object;" } : Jvm.MethodName)) ∈ lw_all := lw_g (lw_at lw_m4 206 rfl) rfl
theorem q1069 : (Jvm.Cond.instanceMethod ({ cls := "java/util/ArrayList", name := "elementData", desc := "(I)Ljava/lang/Object;" } : Jvm.MethodName)) ∈ lw_all := lw_g (lw_at lw_m4 207 rfl) rfl
theorem q1070 : (Jvm.Cond.selects "java/util/ArrayList" ({ cls := "java/util/ArrayList", name := "elementData", desc := "(I)Ljava/lang/Object;" } : Jvm.MethodName) ({ cls := "java/util/ArrayList", name := "elementData", desc := "(I)Ljava/lang/Object;" } : Jvm.MethodName)) ∈ lw_all := lw_g (lw_at lw_m4 208 rfl) rfl
theorem q1071 : (Jvm.Cond.code ({ cls := "java/util/ArrayList", name := "elementData", desc := "(I)Ljava/lang/Object;" } : Jvm.MethodName) prog_36_method_18_code (2 : Nat) (Option.some (Jvm.ClassFile.FieldType.object "java/lang/Object"))) ∈ lw_all := lw_g (lw_at lw_m4 209 rfl) rfl
theorem q2080 : (Jvm.Cond.castable "java/util/ArrayList" "java/lang/Object") ∈ lw_tbl := lw_at lw_m9 18 rfl
theorem in_J2 : ∀ w ∈ wsJ20, w ∈ lw_all := lw_in wsJ20 [285, 281, 283] (by decide +kernel) (by decide +kernel)
/-! java/util/Objects -/
set_option maxRecDepth 100000
def RJ3 : String := "java/util/Objects"
abbrev cJ3_checkIndex : ByteArray := prog_40_method_17_code
def yJ3_checkIndex : MethodName := ⟨RJ3, "checkIndex", "(II)I"⟩
def dkwJ3_checkIndex_0 : List UInt8 := [26, 27, 1, 184, 0, 105, 172]
abbrev dktJ3_checkIndex_0 : List UInt8 := dkwJ3_checkIndex_0 ++ []
theorem dksJ3_checkIndex_0 : cJ3_checkIndex.data.toList.drop 0 = dktJ3_checkIndex_0 := by decide +kernel
theorem dJ3_checkIndex_0 : decode cJ3_checkIndex 0 = .ok (.iload_n 0, 1) := dk_26 (dk_at dksJ3_checkIndex_0 0 rfl rfl)
theorem dJ3_checkIndex_1 : decode cJ3_checkIndex 1 = .ok (.iload_n 1, 1) := dk_27 (dk_at dksJ3_checkIndex_0 1 rfl rfl)
theorem dJ3_checkIndex_2 : decode cJ3_checkIndex 2 = .ok (.aconst_null, 1) := dk_1 (dk_at dksJ3_checkIndex_0 2 rfl rfl)
theorem dJ3_checkIndex_3 : decode cJ3_checkIndex 3 = .ok (.invokestatic 105, 3) := dk_184 0 105 (dk_at dksJ3_checkIndex_0 3 rfl rfl)
theorem dJ3_checkIndex_6 : decode cJ3_checkIndex 6 = .ok (.ireturn, 1) := dk_172 (dk_at dksJ3_checkIndex_0 6 rfl rfl)
theorem q153 : (Jvm.Cond.initialized "java/util/Objects") ∈ lw_all := lw_g (lw_at lw_m1 11 rfl) rfl
theorem q1065 : (Jvm.Cond.static ({ cls := "java/util/Objects", name := "checkIndex", desc := "(II)I" } : Jvm.MethodName)) ∈ lw_all := lw_g (lw_at lw_m4 203 rfl) rfl
theorem q1066 : (Jvm.Cond.code ({ cls := "java/util/Objects", name := "checkIndex", desc := "(II)I" } : Jvm.MethodName) prog_40_method_17_code (2 : Nat) (Option.some Jvm.ClassFile.FieldType.int)) ∈ lw_all := lw_g (lw_at lw_m4 204 rfl) rfl
theorem q1067 : (Jvm.Cond.methodLink "java/util/Objects" (105 : Nat) ({ cls := "jdk/internal/util/Preconditions", name := "checkIndex", desc := "(IILjava/util/function/BiFunction;)I" } : Jvm.MethodName)) ∈ lw_all := lw_g (lw_at lw_m4 205 rfl) rfl
/-! jdk/internal/util/Preconditions -/
set_option maxRecDepth 100000
def RJ4 : String := "jdk/internal/util/Preconditions"
abbrev cJ4_checkIndex : ByteArray := prog_44_method_11_code
def yJ4_checkIndex : MethodName := ⟨RJ4, "checkIndex", "(IILjava/util/function/BiFunction;)I"⟩
def dkwJ4_checkIndex_0 : List UInt8 := [26, 155, 0, 8, 26, 27, 161, 0, 10, 44, 26, 27, 184, 0, 95, 191, 26, 172]
abbrev dktJ4_checkIndex_0 : List UInt8 := dkwJ4_checkIndex_0 ++ []
theorem dksJ4_checkIndex_0 : cJ4_checkIndex.data.toList.drop 0 = dktJ4_checkIndex_0 := by decide +kernel
theorem dJ4_checkIndex_0 : decode cJ4_checkIndex 0 = .ok (.iload_n 0, 1) := dk_26 (dk_at dksJ4_checkIndex_0 0 rfl rfl)
theorem dJ4_checkIndex_1 : decode cJ4_checkIndex 1 = .ok (.ifCond .lt 8, 3) := dk_155 0 8 (dk_at dksJ4_checkIndex_0 1 rfl rfl)
theorem dJ4_checkIndex_4 : decode cJ4_checkIndex 4 = .ok (.iload_n 0, 1) := dk_26 (dk_at dksJ4_checkIndex_0 4 rfl rfl)
theorem dJ4_checkIndex_5 : decode cJ4_checkIndex 5 = .ok (.iload_n 1, 1) := dk_27 (dk_at dksJ4_checkIndex_0 5 rfl rfl)
theorem dJ4_checkIndex_6 : decode cJ4_checkIndex 6 = .ok (.if_icmp .lt 10, 3) := dk_161 0 10 (dk_at dksJ4_checkIndex_0 6 rfl rfl)
theorem dJ4_checkIndex_9 : decode cJ4_checkIndex 9 = .ok (.aload_n 2, 1) := dk_44 (dk_at dksJ4_checkIndex_0 9 rfl rfl)
theorem dJ4_checkIndex_10 : decode cJ4_checkIndex 10 = .ok (.iload_n 0, 1) := dk_26 (dk_at dksJ4_checkIndex_0 10 rfl rfl)
theorem dJ4_checkIndex_11 : decode cJ4_checkIndex 11 = .ok (.iload_n 1, 1) := dk_27 (dk_at dksJ4_checkIndex_0 11 rfl rfl)
theorem dJ4_checkIndex_12 : decode cJ4_checkIndex 12 = .ok (.invokestatic 95, 3) := dk_184 0 95 (dk_at dksJ4_checkIndex_0 12 rfl rfl)
theorem dJ4_checkIndex_15 : decode cJ4_checkIndex 15 = .ok (.athrow, 1) := dk_191 (dk_at dksJ4_checkIndex_0 15 rfl rfl)
theorem dJ4_checkIndex_16 : decode cJ4_checkIndex 16 = .ok (.iload_n 0, 1) := dk_26 (dk_at dksJ4_checkIndex_0 16 rfl rfl)
theorem dJ4_checkIndex_17 : decode cJ4_checkIndex 17 = .ok (.ireturn, 1) := dk_172 (dk_at dksJ4_checkIndex_0 17 rfl rfl)
theorem q154 : (Jvm.Cond.initialized "jdk/internal/util/Preconditions") ∈ lw_all := lw_g (lw_at lw_m1 12 rfl) rfl
theorem q607 : (Jvm.Cond.laysStatic "jdk/internal/util/Preconditions" "SIOOBE_FORMATTER" "Ljava/util/function/BiFunction;") ∈ lw_tbl := lw_at lw_m2 225 rfl
theorem q609 : (Jvm.Cond.static ({ cls := "jdk/internal/util/Preconditions", name := "checkIndex", desc := "(IILjava/util/function/BiFunction;)I" } : Jvm.MethodName)) ∈ lw_all := lw_g (lw_at lw_m2 227 rfl) rfl
theorem q610 : (Jvm.Cond.code ({ cls := "jdk/internal/util/Preconditions", name := "checkIndex", desc := "(IILjava/util/function/BiFunction;)I" } : Jvm.MethodName) prog_44_method_11_code (3 : Nat) (Option.some Jvm.ClassFile.FieldType.int)) ∈ lw_all := lw_g (lw_at lw_m2 228 rfl) rfl
/-! java/lang/Math -/
set_option maxRecDepth 100000
def RJ5 : String := "java/lang/Math"
abbrev cJ5_max : ByteArray := prog_26_method_65_code
def yJ5_max : MethodName := ⟨RJ5, "max", "(II)I"⟩
def dkwJ5_max_0 : List UInt8 := [26, 27, 161, 0, 7, 26, 167, 0, 4, 27, 172]
abbrev dktJ5_max_0 : List UInt8 := dkwJ5_max_0 ++ []
theorem dksJ5_max_0 : cJ5_max.data.toList.drop 0 = dktJ5_max_0 := by decide +kernel
theorem dJ5_max_0 : decode cJ5_max 0 = .ok (.iload_n 0, 1) := dk_26 (dk_at dksJ5_max_0 0 rfl rfl)
theorem dJ5_max_1 : decode cJ5_max 1 = .ok (.iload_n 1, 1) := dk_27 (dk_at dksJ5_max_0 1 rfl rfl)
theorem dJ5_max_2 : decode cJ5_max 2 = .ok (.if_icmp .lt 7, 3) := dk_161 0 7 (dk_at dksJ5_max_0 2 rfl rfl)
theorem dJ5_max_5 : decode cJ5_max 5 = .ok (.iload_n 0, 1) := dk_26 (dk_at dksJ5_max_0 5 rfl rfl)
theorem dJ5_max_6 : decode cJ5_max 6 = .ok (.goto 4, 3) := dk_167 0 4 (dk_at dksJ5_max_0 6 rfl rfl)
theorem dJ5_max_9 : decode cJ5_max 9 = .ok (.iload_n 1, 1) := dk_27 (dk_at dksJ5_max_0 9 rfl rfl)
theorem dJ5_max_10 : decode cJ5_max 10 = .ok (.ireturn, 1) := dk_172 (dk_at dksJ5_max_0 10 rfl rfl)
abbrev cJ5_min : ByteArray := prog_26_method_69_code
def yJ5_min : MethodName := ⟨RJ5, "min", "(II)I"⟩
def dkwJ5_min_0 : List UInt8 := [26, 27, 163, 0, 7, 26, 167, 0, 4, 27, 172]
abbrev dktJ5_min_0 : List UInt8 := dkwJ5_min_0 ++ []
theorem dksJ5_min_0 : cJ5_min.data.toList.drop 0 = dktJ5_min_0 := by decide +kernel
theorem dJ5_min_0 : decode cJ5_min 0 = .ok (.iload_n 0, 1) := dk_26 (dk_at dksJ5_min_0 0 rfl rfl)
theorem dJ5_min_1 : decode cJ5_min 1 = .ok (.iload_n 1, 1) := dk_27 (dk_at dksJ5_min_0 1 rfl rfl)
theorem dJ5_min_2 : decode cJ5_min 2 = .ok (.if_icmp .gt 7, 3) := dk_163 0 7 (dk_at dksJ5_min_0 2 rfl rfl)
theorem dJ5_min_5 : decode cJ5_min 5 = .ok (.iload_n 0, 1) := dk_26 (dk_at dksJ5_min_0 5 rfl rfl)
theorem dJ5_min_6 : decode cJ5_min 6 = .ok (.goto 4, 3) := dk_167 0 4 (dk_at dksJ5_min_0 6 rfl rfl)
theorem dJ5_min_9 : decode cJ5_min 9 = .ok (.iload_n 1, 1) := dk_27 (dk_at dksJ5_min_0 9 rfl rfl)
theorem dJ5_min_10 : decode cJ5_min 10 = .ok (.ireturn, 1) := dk_172 (dk_at dksJ5_min_0 10 rfl rfl)
theorem q155 : (Jvm.Cond.initialized "java/lang/Math") ∈ lw_all := lw_g (lw_at lw_m1 13 rfl) rfl
theorem q866 : (Jvm.Cond.static ({ cls := "java/lang/Math", name := "max", desc := "(II)I" } : Jvm.MethodName)) ∈ lw_all := lw_g (lw_at lw_m4 4 rfl) rfl
theorem q867 : (Jvm.Cond.code ({ cls := "java/lang/Math", name := "max", desc := "(II)I" } : Jvm.MethodName) prog_26_method_65_code (2 : Nat) (Option.some Jvm.ClassFile.FieldType.int)) ∈ lw_all := lw_g (lw_at lw_m4 5 rfl) rfl
theorem q902 : (Jvm.Cond.static ({ cls := "java/lang/Math", name := "min", desc := "(II)I" } : Jvm.MethodName)) ∈ lw_all := lw_g (lw_at lw_m4 40 rfl) rfl
theorem q903 : (Jvm.Cond.code ({ cls := "java/lang/Math", name := "min", desc := "(II)I" } : Jvm.MethodName) prog_26_method_69_code (2 : Nat) (Option.some Jvm.ClassFile.FieldType.int)) ∈ lw_all := lw_g (lw_at lw_m4 41 rfl) rfl
/-! java/lang/Integer -/
set_option maxRecDepth 100000
def RJ6 : String := "java/lang/Integer"
abbrev cJ6_signum : ByteArray := prog_24_method_56_code
def yJ6_signum : MethodName := ⟨RJ6, "signum", "(I)I"⟩
def dkwJ6_signum_0 : List UInt8 := [26, 16, 31, 122, 26, 116, 16, 31, 124, 128, 172]
abbrev dktJ6_signum_0 : List UInt8 := dkwJ6_signum_0 ++ []
theorem dksJ6_signum_0 : cJ6_signum.data.toList.drop 0 = dktJ6_signum_0 := by decide +kernel
theorem dJ6_signum_0 : decode cJ6_signum 0 = .ok (.iload_n 0, 1) := dk_26 (dk_at dksJ6_signum_0 0 rfl rfl)
theorem dJ6_signum_1 : decode cJ6_signum 1 = .ok (.bipush 31, 2) := dk_16 31 (dk_at dksJ6_signum_0 1 rfl rfl)
theorem dJ6_signum_3 : decode cJ6_signum 3 = .ok (.ishr, 1) := dk_122 (dk_at dksJ6_signum_0 3 rfl rfl)
theorem dJ6_signum_4 : decode cJ6_signum 4 = .ok (.iload_n 0, 1) := dk_26 (dk_at dksJ6_signum_0 4 rfl rfl)
theorem dJ6_signum_5 : decode cJ6_signum 5 = .ok (.ineg, 1) := dk_116 (dk_at dksJ6_signum_0 5 rfl rfl)
theorem dJ6_signum_6 : decode cJ6_signum 6 = .ok (.bipush 31, 2) := dk_16 31 (dk_at dksJ6_signum_0 6 rfl rfl)
theorem dJ6_signum_8 : decode cJ6_signum 8 = .ok (.iushr, 1) := dk_124 (dk_at dksJ6_signum_0 8 rfl rfl)
theorem dJ6_signum_9 : decode cJ6_signum 9 = .ok (.ior, 1) := dk_128 (dk_at dksJ6_signum_0 9 rfl rfl)
theorem dJ6_signum_10 : decode cJ6_signum 10 = .ok (.ireturn, 1) := dk_172 (dk_at dksJ6_signum_0 10 rfl rfl)
abbrev cJ6_bitCount : ByteArray := prog_24_method_49_code
def yJ6_bitCount : MethodName := ⟨RJ6, "bitCount", "(I)I"⟩
def dkwJ6_bitCount_2 : List UInt8 := [26, 16, 63, 126, 172]
abbrev dktJ6_bitCount_2 : List UInt8 := dkwJ6_bitCount_2 ++ []
def dkwJ6_bitCount_1 : List UInt8 := [26, 26, 7, 124, 96, 19, 1, 11, 126, 59, 26, 26, 16, 8, 124, 96, 59, 26, 26, 16, 16, 124, 96, 59]
abbrev dktJ6_bitCount_1 : List UInt8 := dkwJ6_bitCount_1 ++ dktJ6_bitCount_2
def dkwJ6_bitCount_0 : List UInt8 := [26, 26, 4, 124, 19, 1, 9, 126, 100, 59, 26, 19, 1, 10, 126, 26, 5, 124, 19, 1, 10, 126, 96, 59]
abbrev dktJ6_bitCount_0 : List UInt8 := dkwJ6_bitCount_0 ++ dktJ6_bitCount_1
theorem dksJ6_bitCount_0 : cJ6_bitCount.data.toList.drop 0 = dktJ6_bitCount_0 := by decide +kernel
theorem dksJ6_bitCount_1 : cJ6_bitCount.data.toList.drop 24 = dktJ6_bitCount_1 := dk_seg dksJ6_bitCount_0 24 rfl rfl
theorem dksJ6_bitCount_2 : cJ6_bitCount.data.toList.drop 48 = dktJ6_bitCount_2 := dk_seg dksJ6_bitCount_1 24 rfl rfl
theorem dJ6_bitCount_0 : decode cJ6_bitCount 0 = .ok (.iload_n 0, 1) := dk_26 (dk_at dksJ6_bitCount_0 0 rfl rfl)
theorem dJ6_bitCount_1 : decode cJ6_bitCount 1 = .ok (.iload_n 0, 1) := dk_26 (dk_at dksJ6_bitCount_0 1 rfl rfl)
theorem dJ6_bitCount_2 : decode cJ6_bitCount 2 = .ok (.iconst 1, 1) := dk_4 (dk_at dksJ6_bitCount_0 2 rfl rfl)
theorem dJ6_bitCount_3 : decode cJ6_bitCount 3 = .ok (.iushr, 1) := dk_124 (dk_at dksJ6_bitCount_0 3 rfl rfl)
theorem dJ6_bitCount_4 : decode cJ6_bitCount 4 = .ok (.ldc_w 265, 3) := dk_19 1 9 (dk_at dksJ6_bitCount_0 4 rfl rfl)
theorem dJ6_bitCount_7 : decode cJ6_bitCount 7 = .ok (.iand, 1) := dk_126 (dk_at dksJ6_bitCount_0 7 rfl rfl)
theorem dJ6_bitCount_8 : decode cJ6_bitCount 8 = .ok (.isub, 1) := dk_100 (dk_at dksJ6_bitCount_0 8 rfl rfl)
theorem dJ6_bitCount_9 : decode cJ6_bitCount 9 = .ok (.istore_n 0, 1) := dk_59 (dk_at dksJ6_bitCount_0 9 rfl rfl)
theorem dJ6_bitCount_10 : decode cJ6_bitCount 10 = .ok (.iload_n 0, 1) := dk_26 (dk_at dksJ6_bitCount_0 10 rfl rfl)
theorem dJ6_bitCount_11 : decode cJ6_bitCount 11 = .ok (.ldc_w 266, 3) := dk_19 1 10 (dk_at dksJ6_bitCount_0 11 rfl rfl)
theorem dJ6_bitCount_14 : decode cJ6_bitCount 14 = .ok (.iand, 1) := dk_126 (dk_at dksJ6_bitCount_0 14 rfl rfl)
theorem dJ6_bitCount_15 : decode cJ6_bitCount 15 = .ok (.iload_n 0, 1) := dk_26 (dk_at dksJ6_bitCount_0 15 rfl rfl)
theorem dJ6_bitCount_16 : decode cJ6_bitCount 16 = .ok (.iconst 2, 1) := dk_5 (dk_at dksJ6_bitCount_0 16 rfl rfl)
theorem dJ6_bitCount_17 : decode cJ6_bitCount 17 = .ok (.iushr, 1) := dk_124 (dk_at dksJ6_bitCount_0 17 rfl rfl)
theorem dJ6_bitCount_18 : decode cJ6_bitCount 18 = .ok (.ldc_w 266, 3) := dk_19 1 10 (dk_at dksJ6_bitCount_0 18 rfl rfl)
theorem dJ6_bitCount_21 : decode cJ6_bitCount 21 = .ok (.iand, 1) := dk_126 (dk_at dksJ6_bitCount_0 21 rfl rfl)
theorem dJ6_bitCount_22 : decode cJ6_bitCount 22 = .ok (.iadd, 1) := dk_96 (dk_at dksJ6_bitCount_0 22 rfl rfl)
theorem dJ6_bitCount_23 : decode cJ6_bitCount 23 = .ok (.istore_n 0, 1) := dk_59 (dk_at dksJ6_bitCount_0 23 rfl rfl)
theorem dJ6_bitCount_24 : decode cJ6_bitCount 24 = .ok (.iload_n 0, 1) := dk_26 (dk_at dksJ6_bitCount_1 0 rfl rfl)
theorem dJ6_bitCount_25 : decode cJ6_bitCount 25 = .ok (.iload_n 0, 1) := dk_26 (dk_at dksJ6_bitCount_1 1 rfl rfl)
theorem dJ6_bitCount_26 : decode cJ6_bitCount 26 = .ok (.iconst 4, 1) := dk_7 (dk_at dksJ6_bitCount_1 2 rfl rfl)
theorem dJ6_bitCount_27 : decode cJ6_bitCount 27 = .ok (.iushr, 1) := dk_124 (dk_at dksJ6_bitCount_1 3 rfl rfl)
theorem dJ6_bitCount_28 : decode cJ6_bitCount 28 = .ok (.iadd, 1) := dk_96 (dk_at dksJ6_bitCount_1 4 rfl rfl)
theorem dJ6_bitCount_29 : decode cJ6_bitCount 29 = .ok (.ldc_w 267, 3) := dk_19 1 11 (dk_at dksJ6_bitCount_1 5 rfl rfl)
theorem dJ6_bitCount_32 : decode cJ6_bitCount 32 = .ok (.iand, 1) := dk_126 (dk_at dksJ6_bitCount_1 8 rfl rfl)
theorem dJ6_bitCount_33 : decode cJ6_bitCount 33 = .ok (.istore_n 0, 1) := dk_59 (dk_at dksJ6_bitCount_1 9 rfl rfl)
theorem dJ6_bitCount_34 : decode cJ6_bitCount 34 = .ok (.iload_n 0, 1) := dk_26 (dk_at dksJ6_bitCount_1 10 rfl rfl)
theorem dJ6_bitCount_35 : decode cJ6_bitCount 35 = .ok (.iload_n 0, 1) := dk_26 (dk_at dksJ6_bitCount_1 11 rfl rfl)
theorem dJ6_bitCount_36 : decode cJ6_bitCount 36 = .ok (.bipush 8, 2) := dk_16 8 (dk_at dksJ6_bitCount_1 12 rfl rfl)
theorem dJ6_bitCount_38 : decode cJ6_bitCount 38 = .ok (.iushr, 1) := dk_124 (dk_at dksJ6_bitCount_1 14 rfl rfl)
theorem dJ6_bitCount_39 : decode cJ6_bitCount 39 = .ok (.iadd, 1) := dk_96 (dk_at dksJ6_bitCount_1 15 rfl rfl)
theorem dJ6_bitCount_40 : decode cJ6_bitCount 40 = .ok (.istore_n 0, 1) := dk_59 (dk_at dksJ6_bitCount_1 16 rfl rfl)
theorem dJ6_bitCount_41 : decode cJ6_bitCount 41 = .ok (.iload_n 0, 1) := dk_26 (dk_at dksJ6_bitCount_1 17 rfl rfl)
theorem dJ6_bitCount_42 : decode cJ6_bitCount 42 = .ok (.iload_n 0, 1) := dk_26 (dk_at dksJ6_bitCount_1 18 rfl rfl)
theorem dJ6_bitCount_43 : decode cJ6_bitCount 43 = .ok (.bipush 16, 2) := dk_16 16 (dk_at dksJ6_bitCount_1 19 rfl rfl)
theorem dJ6_bitCount_45 : decode cJ6_bitCount 45 = .ok (.iushr, 1) := dk_124 (dk_at dksJ6_bitCount_1 21 rfl rfl)
theorem dJ6_bitCount_46 : decode cJ6_bitCount 46 = .ok (.iadd, 1) := dk_96 (dk_at dksJ6_bitCount_1 22 rfl rfl)
theorem dJ6_bitCount_47 : decode cJ6_bitCount 47 = .ok (.istore_n 0, 1) := dk_59 (dk_at dksJ6_bitCount_1 23 rfl rfl)
theorem dJ6_bitCount_48 : decode cJ6_bitCount 48 = .ok (.iload_n 0, 1) := dk_26 (dk_at dksJ6_bitCount_2 0 rfl rfl)
theorem dJ6_bitCount_49 : decode cJ6_bitCount 49 = .ok (.bipush 63, 2) := dk_16 63 (dk_at dksJ6_bitCount_2 1 rfl rfl)
theorem dJ6_bitCount_51 : decode cJ6_bitCount 51 = .ok (.iand, 1) := dk_126 (dk_at dksJ6_bitCount_2 3 rfl rfl)
theorem dJ6_bitCount_52 : decode cJ6_bitCount 52 = .ok (.ireturn, 1) := dk_172 (dk_at dksJ6_bitCount_2 4 rfl rfl)
theorem q156 : (Jvm.Cond.initialized "java/lang/Integer") ∈ lw_all := lw_g (lw_at lw_m1 14 rfl) rfl
theorem q1166 : (Jvm.Cond.static ({ cls := "java/lang/Integer", name := "signum", desc := "(I)I" } : Jvm.MethodName)) ∈ lw_all := lw_g (lw_at lw_m5 64 rfl) rfl
theorem q1167 : (Jvm.Cond.code ({ cls := "java/lang/Integer", name := "signum", desc := "(I)I" } : Jvm.MethodName) prog_24_method_56_code (1 : Nat) (Option.some Jvm.ClassFile.FieldType.int)) ∈ lw_all := lw_g (lw_at lw_m5 65 rfl) rfl
theorem q1246 : (Jvm.Cond.static ({ cls := "java/lang/Integer", name := "bitCount", desc := "(I)I" } : Jvm.MethodName)) ∈ lw_all := lw_g (lw_at lw_m5 144 rfl) rfl
theorem q1247 : (Jvm.Cond.code ({ cls := "java/lang/Integer", name := "bitCount", desc := "(I)I" } : Jvm.MethodName) prog_24_method_49_code (1 : Nat) (Option.some Jvm.ClassFile.FieldType.int)) ∈ lw_all := lw_g (lw_at lw_m5 145 rfl) rfl
theorem q1248 : (Jvm.Cond.constant "java/lang/Integer" (265 : Nat) (1431655765 : Int32)) ∈ lw_all := lw_g (lw_at lw_m5 146 rfl) rfl
theorem q1249 : (Jvm.Cond.constant "java/lang/Integer" (266 : Nat) (858993459 : Int32)) ∈ lw_all := lw_g (lw_at lw_m5 147 rfl) rfl
theorem q1250 : (Jvm.Cond.constant "java/lang/Integer" (267 : Nat) (252645135 : Int32)) ∈ lw_all := lw_g (lw_at lw_m5 148 rfl) rfl
/-! java/lang/String -/
set_option maxRecDepth 100000
def RJ7 : String := "java/lang/String"
abbrev cJ7_length : ByteArray := prog_27_method_54_code
def yJ7_length : MethodName := ⟨RJ7, "length", "()I"⟩
def dkwJ7_length_0 : List UInt8 := [42, 180, 0, 9, 190, 42, 182, 1, 79, 122, 172]
abbrev dktJ7_length_0 : List UInt8 := dkwJ7_length_0 ++ []
theorem dksJ7_length_0 : cJ7_length.data.toList.drop 0 = dktJ7_length_0 := by decide +kernel
theorem dJ7_length_0 : decode cJ7_length 0 = .ok (.aload_n 0, 1) := dk_42 (dk_at dksJ7_length_0 0 rfl rfl)
theorem dJ7_length_1 : decode cJ7_length 1 = .ok (.getfield 9, 3) := dk_180 0 9 (dk_at dksJ7_length_0 1 rfl rfl)
theorem dJ7_length_4 : decode cJ7_length 4 = .ok (.arraylength, 1) := dk_190 (dk_at dksJ7_length_0 4 rfl rfl)
theorem dJ7_length_5 : decode cJ7_length 5 = .ok (.aload_n 0, 1) := dk_42 (dk_at dksJ7_length_0 5 rfl rfl)
theorem dJ7_length_6 : decode cJ7_length 6 = .ok (.invokevirtual 335, 3) := dk_182 1 79 (dk_at dksJ7_length_0 6 rfl rfl)
theorem dJ7_length_9 : decode cJ7_length 9 = .ok (.ishr, 1) := dk_122 (dk_at dksJ7_length_0 9 rfl rfl)
theorem dJ7_length_10 : decode cJ7_length 10 = .ok (.ireturn, 1) := dk_172 (dk_at dksJ7_length_0 10 rfl rfl)
abbrev cJ7_coder : ByteArray := prog_27_method_152_code
def yJ7_coder : MethodName := ⟨RJ7, "coder", "()B"⟩
def dkwJ7_coder_0 : List UInt8 := [178, 0, 38, 153, 0, 10, 42, 180, 0, 15, 167, 0, 4, 4, 172]
abbrev dktJ7_coder_0 : List UInt8 := dkwJ7_coder_0 ++ []
theorem dksJ7_coder_0 : cJ7_coder.data.toList.drop 0 = dktJ7_coder_0 := by decide +kernel
theorem dJ7_coder_0 : decode cJ7_coder 0 = .ok (.getstatic 38, 3) := dk_178 0 38 (dk_at dksJ7_coder_0 0 rfl rfl)
theorem dJ7_coder_3 : decode cJ7_coder 3 = .ok (.ifCond .eq 10, 3) := dk_153 0 10 (dk_at dksJ7_coder_0 3 rfl rfl)
theorem dJ7_coder_6 : decode cJ7_coder 6 = .ok (.aload_n 0, 1) := dk_42 (dk_at dksJ7_coder_0 6 rfl rfl)
theorem dJ7_coder_7 : decode cJ7_coder 7 = .ok (.getfield 15, 3) := dk_180 0 15 (dk_at dksJ7_coder_0 7 rfl rfl)
theorem dJ7_coder_10 : decode cJ7_coder 10 = .ok (.goto 4, 3) := dk_167 0 4 (dk_at dksJ7_coder_0 10 rfl rfl)
theorem dJ7_coder_13 : decode cJ7_coder 13 = .ok (.iconst 1, 1) := dk_4 (dk_at dksJ7_coder_0 13 rfl rfl)
theorem dJ7_coder_14 : decode cJ7_coder 14 = .ok (.ireturn, 1) := dk_172 (dk_at dksJ7_coder_0 14 rfl rfl)
abbrev cJ7_charAt : ByteArray := prog_27_method_56_code
def yJ7_charAt : MethodName := ⟨RJ7, "charAt", "(I)C"⟩
def dkwJ7_charAt_1 : List UInt8 := [172]
abbrev dktJ7_charAt_1 : List UInt8 := dkwJ7_charAt_1 ++ []
def dkwJ7_charAt_0 : List UInt8 := [42, 182, 1, 236, 153, 0, 12, 42, 180, 0, 9, 27, 184, 1, 239, 172, 42, 180, 0, 9, 27, 184, 1, 242]
abbrev dktJ7_charAt_0 : List UInt8 := dkwJ7_charAt_0 ++ dktJ7_charAt_1
theorem dksJ7_charAt_0 : cJ7_charAt.data.toList.drop 0 = dktJ7_charAt_0 := by decide +kernel
theorem dksJ7_charAt_1 : cJ7_charAt.data.toList.drop 24 = dktJ7_charAt_1 := dk_seg dksJ7_charAt_0 24 rfl rfl
theorem dJ7_charAt_0 : decode cJ7_charAt 0 = .ok (.aload_n 0, 1) := dk_42 (dk_at dksJ7_charAt_0 0 rfl rfl)
theorem dJ7_charAt_1 : decode cJ7_charAt 1 = .ok (.invokevirtual 492, 3) := dk_182 1 236 (dk_at dksJ7_charAt_0 1 rfl rfl)
theorem dJ7_charAt_4 : decode cJ7_charAt 4 = .ok (.ifCond .eq 12, 3) := dk_153 0 12 (dk_at dksJ7_charAt_0 4 rfl rfl)
theorem dJ7_charAt_7 : decode cJ7_charAt 7 = .ok (.aload_n 0, 1) := dk_42 (dk_at dksJ7_charAt_0 7 rfl rfl)
theorem dJ7_charAt_8 : decode cJ7_charAt 8 = .ok (.getfield 9, 3) := dk_180 0 9 (dk_at dksJ7_charAt_0 8 rfl rfl)
theorem dJ7_charAt_11 : decode cJ7_charAt 11 = .ok (.iload_n 1, 1) := dk_27 (dk_at dksJ7_charAt_0 11 rfl rfl)
theorem dJ7_charAt_12 : decode cJ7_charAt 12 = .ok (.invokestatic 495, 3) := dk_184 1 239 (dk_at dksJ7_charAt_0 12 rfl rfl)
theorem dJ7_charAt_15 : decode cJ7_charAt 15 = .ok (.ireturn, 1) := dk_172 (dk_at dksJ7_charAt_0 15 rfl rfl)
theorem dJ7_charAt_16 : decode cJ7_charAt 16 = .ok (.aload_n 0, 1) := dk_42 (dk_at dksJ7_charAt_0 16 rfl rfl)
theorem dJ7_charAt_17 : decode cJ7_charAt 17 = .ok (.getfield 9, 3) := dk_180 0 9 (dk_at dksJ7_charAt_0 17 rfl rfl)
theorem dJ7_charAt_20 : decode cJ7_charAt 20 = .ok (.iload_n 1, 1) := dk_27 (dk_at dksJ7_charAt_0 20 rfl rfl)
theorem dJ7_charAt_21 : decode cJ7_charAt 21 = .ok (.invokestatic 498, 3) := dk_184 1 242 (dk_at dksJ7_charAt_0 21 rfl rfl)
theorem dJ7_charAt_24 : decode cJ7_charAt 24 = .ok (.ireturn, 1) := dk_172 (dk_at dksJ7_charAt_1 0 rfl rfl)
abbrev cJ7_isLatin1 : ByteArray := prog_27_method_154_code
def yJ7_isLatin1 : MethodName := ⟨RJ7, "isLatin1", "()Z"⟩
def dkwJ7_isLatin1_0 : List UInt8 := [178, 0, 38, 153, 0, 14, 42, 180, 0, 15, 154, 0, 7, 4, 167, 0, 4, 3, 172]
abbrev dktJ7_isLatin1_0 : List UInt8 := dkwJ7_isLatin1_0 ++ []
theorem dksJ7_isLatin1_0 : cJ7_isLatin1.data.toList.drop 0 = dktJ7_isLatin1_0 := by decide +kernel
theorem dJ7_isLatin1_0 : decode cJ7_isLatin1 0 = .ok (.getstatic 38, 3) := dk_178 0 38 (dk_at dksJ7_isLatin1_0 0 rfl rfl)
theorem dJ7_isLatin1_3 : decode cJ7_isLatin1 3 = .ok (.ifCond .eq 14, 3) := dk_153 0 14 (dk_at dksJ7_isLatin1_0 3 rfl rfl)
theorem dJ7_isLatin1_6 : decode cJ7_isLatin1 6 = .ok (.aload_n 0, 1) := dk_42 (dk_at dksJ7_isLatin1_0 6 rfl rfl)
theorem dJ7_isLatin1_7 : decode cJ7_isLatin1 7 = .ok (.getfield 15, 3) := dk_180 0 15 (dk_at dksJ7_isLatin1_0 7 rfl rfl)
theorem dJ7_isLatin1_10 : decode cJ7_isLatin1 10 = .ok (.ifCond .ne 7, 3) := dk_154 0 7 (dk_at dksJ7_isLatin1_0 10 rfl rfl)
theorem dJ7_isLatin1_13 : decode cJ7_isLatin1 13 = .ok (.iconst 1, 1) := dk_4 (dk_at dksJ7_isLatin1_0 13 rfl rfl)
theorem dJ7_isLatin1_14 : decode cJ7_isLatin1 14 = .ok (.goto 4, 3) := dk_167 0 4 (dk_at dksJ7_isLatin1_0 14 rfl rfl)
theorem dJ7_isLatin1_17 : decode cJ7_isLatin1 17 = .ok (.iconst 0, 1) := dk_3 (dk_at dksJ7_isLatin1_0 17 rfl rfl)
theorem dJ7_isLatin1_18 : decode cJ7_isLatin1 18 = .ok (.ireturn, 1) := dk_172 (dk_at dksJ7_isLatin1_0 18 rfl rfl)
abbrev cJ7_checkIndex : ByteArray := prog_27_method_155_code
def yJ7_checkIndex : MethodName := ⟨RJ7, "checkIndex", "(II)V"⟩
def dkwJ7_checkIndex_0 : List UInt8 := [26, 27, 178, 4, 29, 184, 4, 35, 87, 177]
abbrev dktJ7_checkIndex_0 : List UInt8 := dkwJ7_checkIndex_0 ++ []
theorem dksJ7_checkIndex_0 : cJ7_checkIndex.data.toList.drop 0 = dktJ7_checkIndex_0 := by decide +kernel
theorem dJ7_checkIndex_0 : decode cJ7_checkIndex 0 = .ok (.iload_n 0, 1) := dk_26 (dk_at dksJ7_checkIndex_0 0 rfl rfl)
theorem dJ7_checkIndex_1 : decode cJ7_checkIndex 1 = .ok (.iload_n 1, 1) := dk_27 (dk_at dksJ7_checkIndex_0 1 rfl rfl)
theorem dJ7_checkIndex_2 : decode cJ7_checkIndex 2 = .ok (.getstatic 1053, 3) := dk_178 4 29 (dk_at dksJ7_checkIndex_0 2 rfl rfl)
theorem dJ7_checkIndex_5 : decode cJ7_checkIndex 5 = .ok (.invokestatic 1059, 3) := dk_184 4 35 (dk_at dksJ7_checkIndex_0 5 rfl rfl)
theorem dJ7_checkIndex_8 : decode cJ7_checkIndex 8 = .ok (.pop, 1) := dk_87 (dk_at dksJ7_checkIndex_0 8 rfl rfl)
theorem dJ7_checkIndex_9 : decode cJ7_checkIndex 9 = .ok (.return_, 1) := dk_177 (dk_at dksJ7_checkIndex_0 9 rfl rfl)
theorem q158 : (Jvm.Cond.initialized "java/lang/String") ∈ lw_all := lw_g (lw_at lw_m1 16 rfl) rfl
theorem q583 : (Jvm.Cond.instanceMethod ({ cls := "java/lang/String", name := "length", desc := "()I" } : Jvm.MethodName)) ∈ lw_all := lw_g (lw_at lw_m2 201 rfl) rfl
theorem q584 : (Jvm.Cond.selects "java/lang/String" ({ cls := "java/lang/String", name := "length", desc := "()I" } : Jvm.MethodName) ({ cls := "java/lang/String", name := "length", desc := "()I" } : Jvm.MethodName)) ∈ lw_all := lw_g (lw_at lw_m2 202 rfl) rfl
theorem q585 : (Jvm.Cond.code ({ cls := "java/lang/String", name := "length", desc := "()I" } : Jvm.MethodName) prog_27_method_54_code (1 : Nat) (Option.some Jvm.ClassFile.FieldType.int)) ∈ lw_all := lw_g (lw_at lw_m2 203 rfl) rfl
theorem q586 : (Jvm.Cond.methodLink "java/lang/String" (335 : Nat) ({ cls := "java/lang/String", name := "coder", desc := "()B" } : Jvm.MethodName)) ∈ lw_all := lw_g (lw_at lw_m2 204 rfl) rfl
theorem q587 : (Jvm.Cond.instanceMethod ({ cls := "java/lang/String", name := "coder", desc := "()B" } : Jvm.MethodName)) ∈ lw_all := lw_g (lw_at lw_m2 205 rfl) rfl
theorem q588 : (Jvm.Cond.selects "java/lang/String" ({ cls := "java/lang/String", name := "coder", desc := "()B" } : Jvm.MethodName) ({ cls := "java/lang/String", name := "coder", desc := "()B" } : Jvm.MethodName)) ∈ lw_all := lw_g (lw_at lw_m2 206 rfl) rfl
theorem q589 : (Jvm.Cond.code ({ cls := "java/lang/String", name := "coder", desc := "()B" } : Jvm.MethodName) prog_27_method_152_code (1 : Nat) (Option.some Jvm.ClassFile.FieldType.byte)) ∈ lw_all := lw_g (lw_at lw_m2 207 rfl) rfl
theorem q590 : (Jvm.Cond.fieldLink "java/lang/String" (38 : Nat) "java/lang/String" "COMPACT_STRINGS" "Z") ∈ lw_all := lw_g (lw_at lw_m2 208 rfl) rfl
theorem q591 : (Jvm.Cond.laysStatic "java/lang/String" "COMPACT_STRINGS" "Z") ∈ lw_tbl := lw_at lw_m2 209 rfl
theorem q593 : (Jvm.Cond.instanceMethod ({ cls := "java/lang/String", name := "charAt", desc := "(I)C" } : Jvm.MethodName)) ∈ lw_all := lw_g (lw_at lw_m2 211 rfl) rfl
theorem q594 : (Jvm.Cond.selects "java/lang/String" ({ cls := "java/lang/String", name := "charAt", desc := "(I)C" } : Jvm.MethodName) ({ cls := "java/lang/String", name := "charAt", desc := "(I)C" } : Jvm.MethodName)) ∈ lw_all := lw_g (lw_at lw_m2 212 rfl) rfl
theorem q595 : (Jvm.Cond.code ({ cls := "java/lang/String", name := "charAt", desc := "(I)C" } : Jvm.MethodName) prog_27_method_56_code (2 : Nat) (Option.some Jvm.ClassFile.FieldType.char)) ∈ lw_all := lw_g (lw_at lw_m2 213 rfl) rfl
theorem q596 : (Jvm.Cond.methodLink "java/lang/String" (492 : Nat) ({ cls := "java/lang/String", name := "isLatin1", desc := "()Z" } : Jvm.MethodName)) ∈ lw_all := lw_g (lw_at lw_m2 214 rfl) rfl
theorem q597 : (Jvm.Cond.instanceMethod ({ cls := "java/lang/String", name := "isLatin1", desc := "()Z" } : Jvm.MethodName)) ∈ lw_all := lw_g (lw_at lw_m2 215 rfl) rfl
theorem q598 : (Jvm.Cond.selects "java/lang/String" ({ cls := "java/lang/String", name := "isLatin1", desc := "()Z" } : Jvm.MethodName) ({ cls := "java/lang/String", name := "isLatin1", desc := "()Z" } : Jvm.MethodName)) ∈ lw_all := lw_g (lw_at lw_m2 216 rfl) rfl
theorem q599 : (Jvm.Cond.code ({ cls := "java/lang/String", name := "isLatin1", desc := "()Z" } : Jvm.MethodName) prog_27_method_154_code (1 : Nat) (Option.some Jvm.ClassFile.FieldType.boolean)) ∈ lw_all := lw_g (lw_at lw_m2 217 rfl) rfl
theorem q600 : (Jvm.Cond.methodLink "java/lang/String" (495 : Nat) ({ cls := "java/lang/StringLatin1", name := "charAt", desc := "([BI)C" } : Jvm.MethodName)) ∈ lw_all := lw_g (lw_at lw_m2 218 rfl) rfl
theorem q604 : (Jvm.Cond.static ({ cls := "java/lang/String", name := "checkIndex", desc := "(II)V" } : Jvm.MethodName)) ∈ lw_all := lw_g (lw_at lw_m2 222 rfl) rfl
theorem q605 : (Jvm.Cond.code ({ cls := "java/lang/String", name := "checkIndex", desc := "(II)V" } : Jvm.MethodName) prog_27_method_155_code (2 : Nat) (Option.none : Option Jvm.ClassFile.FieldType)) ∈ lw_all := lw_g (lw_at lw_m2 223 rfl) rfl
theorem q606 : (Jvm.Cond.fieldLink "java/lang/String" (1053 : Nat) "jdk/internal/util/Preconditions" "SIOOBE_FORMATTER" "Ljava/util/function/BiFunction;") ∈ lw_all := lw_g (lw_at lw_m2 224 rfl) rfl
theorem q608 : (Jvm.Cond.methodLink "java/lang/String" (1059 : Nat) ({ cls := "jdk/internal/util/Preconditions", name := "checkIndex", desc := "(IILjava/util/function/BiFunction;)I" } : Jvm.MethodName)) ∈ lw_all := lw_g (lw_at lw_m2 226 rfl) rfl
theorem q611 : (Jvm.Cond.methodLink "java/lang/String" (498 : Nat) ({ cls := "java/lang/StringUTF16", name := "charAt", desc := "([BI)C" } : Jvm.MethodName)) ∈ lw_all := lw_g (lw_at lw_m2 229 rfl) rfl
theorem q2091 : (Jvm.Cond.castable "java/lang/String" "java/lang/Object") ∈ lw_tbl := lw_at lw_m9 29 rfl
theorem q2102 : (Jvm.Cond.fieldLink "java/lang/String" (9 : Nat) "java/lang/String" "value" "[B") ∈ lw_all := lw_g (lw_at lw_m9 40 rfl) rfl
theorem q2103 : (Jvm.Cond.fieldLink "java/lang/String" (15 : Nat) "java/lang/String" "coder" "B") ∈ lw_all := lw_g (lw_at lw_m9 41 rfl) rfl
/-! java/lang/StringLatin1 -/
set_option maxRecDepth 100000
def RJ8 : String := "java/lang/StringLatin1"
abbrev cJ8_charAt : ByteArray := prog_28_method_2_code
def yJ8_charAt : MethodName := ⟨RJ8, "charAt", "([BI)C"⟩
def dkwJ8_charAt_0 : List UInt8 := [27, 42, 190, 184, 0, 9, 42, 27, 51, 17, 0, 255, 126, 146, 172]
abbrev dktJ8_charAt_0 : List UInt8 := dkwJ8_charAt_0 ++ []
theorem dksJ8_charAt_0 : cJ8_charAt.data.toList.drop 0 = dktJ8_charAt_0 := by decide +kernel
theorem dJ8_charAt_0 : decode cJ8_charAt 0 = .ok (.iload_n 1, 1) := dk_27 (dk_at dksJ8_charAt_0 0 rfl rfl)
theorem dJ8_charAt_1 : decode cJ8_charAt 1 = .ok (.aload_n 0, 1) := dk_42 (dk_at dksJ8_charAt_0 1 rfl rfl)
theorem dJ8_charAt_2 : decode cJ8_charAt 2 = .ok (.arraylength, 1) := dk_190 (dk_at dksJ8_charAt_0 2 rfl rfl)
theorem dJ8_charAt_3 : decode cJ8_charAt 3 = .ok (.invokestatic 9, 3) := dk_184 0 9 (dk_at dksJ8_charAt_0 3 rfl rfl)
theorem dJ8_charAt_6 : decode cJ8_charAt 6 = .ok (.aload_n 0, 1) := dk_42 (dk_at dksJ8_charAt_0 6 rfl rfl)
theorem dJ8_charAt_7 : decode cJ8_charAt 7 = .ok (.iload_n 1, 1) := dk_27 (dk_at dksJ8_charAt_0 7 rfl rfl)
theorem dJ8_charAt_8 : decode cJ8_charAt 8 = .ok (.baload, 1) := dk_51 (dk_at dksJ8_charAt_0 8 rfl rfl)
theorem dJ8_charAt_9 : decode cJ8_charAt 9 = .ok (.sipush 255, 3) := dk_17 0 255 (dk_at dksJ8_charAt_0 9 rfl rfl)
theorem dJ8_charAt_12 : decode cJ8_charAt 12 = .ok (.iand, 1) := dk_126 (dk_at dksJ8_charAt_0 12 rfl rfl)
theorem dJ8_charAt_13 : decode cJ8_charAt 13 = .ok (.i2c, 1) := dk_146 (dk_at dksJ8_charAt_0 13 rfl rfl)
theorem dJ8_charAt_14 : decode cJ8_charAt 14 = .ok (.ireturn, 1) := dk_172 (dk_at dksJ8_charAt_0 14 rfl rfl)
theorem q159 : (Jvm.Cond.initialized "java/lang/StringLatin1") ∈ lw_all := lw_g (lw_at lw_m1 17 rfl) rfl
theorem q601 : (Jvm.Cond.static ({ cls := "java/lang/StringLatin1", name := "charAt", desc := "([BI)C" } : Jvm.MethodName)) ∈ lw_all := lw_g (lw_at lw_m2 219 rfl) rfl
theorem q602 : (Jvm.Cond.code ({ cls := "java/lang/StringLatin1", name := "charAt", desc := "([BI)C" } : Jvm.MethodName) prog_28_method_2_code (2 : Nat) (Option.some Jvm.ClassFile.FieldType.char)) ∈ lw_all := lw_g (lw_at lw_m2 220 rfl) rfl
theorem q603 : (Jvm.Cond.methodLink "java/lang/StringLatin1" (9 : Nat) ({ cls := "java/lang/String", name := "checkIndex", desc := "(II)V" } : Jvm.MethodName)) ∈ lw_all := lw_g (lw_at lw_m2 221 rfl) rfl
/-! java/lang/StringUTF16 -/
set_option maxRecDepth 100000
def RJ9 : String := "java/lang/StringUTF16"
abbrev cJ9_charAt : ByteArray := prog_29_method_83_code
def yJ9_charAt : MethodName := ⟨RJ9, "charAt", "([BI)C"⟩
def dkwJ9_charAt_0 : List UInt8 := [27, 42, 184, 0, 67, 42, 27, 184, 0, 71, 172]
abbrev dktJ9_charAt_0 : List UInt8 := dkwJ9_charAt_0 ++ []
theorem dksJ9_charAt_0 : cJ9_charAt.data.toList.drop 0 = dktJ9_charAt_0 := by decide +kernel
theorem dJ9_charAt_0 : decode cJ9_charAt 0 = .ok (.iload_n 1, 1) := dk_27 (dk_at dksJ9_charAt_0 0 rfl rfl)
theorem dJ9_charAt_1 : decode cJ9_charAt 1 = .ok (.aload_n 0, 1) := dk_42 (dk_at dksJ9_charAt_0 1 rfl rfl)
theorem dJ9_charAt_2 : decode cJ9_charAt 2 = .ok (.invokestatic 67, 3) := dk_184 0 67 (dk_at dksJ9_charAt_0 2 rfl rfl)
theorem dJ9_charAt_5 : decode cJ9_charAt 5 = .ok (.aload_n 0, 1) := dk_42 (dk_at dksJ9_charAt_0 5 rfl rfl)
theorem dJ9_charAt_6 : decode cJ9_charAt 6 = .ok (.iload_n 1, 1) := dk_27 (dk_at dksJ9_charAt_0 6 rfl rfl)
theorem dJ9_charAt_7 : decode cJ9_charAt 7 = .ok (.invokestatic 71, 3) := dk_184 0 71 (dk_at dksJ9_charAt_0 7 rfl rfl)
theorem dJ9_charAt_10 : decode cJ9_charAt 10 = .ok (.ireturn, 1) := dk_172 (dk_at dksJ9_charAt_0 10 rfl rfl)
abbrev cJ9_checkIndex : ByteArray := prog_29_method_91_code
def yJ9_checkIndex : MethodName := ⟨RJ9, "checkIndex", "(I[B)V"⟩
def dkwJ9_checkIndex_0 : List UInt8 := [26, 43, 184, 0, 48, 184, 1, 158, 177]
abbrev dktJ9_checkIndex_0 : List UInt8 := dkwJ9_checkIndex_0 ++ []
theorem dksJ9_checkIndex_0 : cJ9_checkIndex.data.toList.drop 0 = dktJ9_checkIndex_0 := by decide +kernel
theorem dJ9_checkIndex_0 : decode cJ9_checkIndex 0 = .ok (.iload_n 0, 1) := dk_26 (dk_at dksJ9_checkIndex_0 0 rfl rfl)
theorem dJ9_checkIndex_1 : decode cJ9_checkIndex 1 = .ok (.aload_n 1, 1) := dk_43 (dk_at dksJ9_checkIndex_0 1 rfl rfl)
theorem dJ9_checkIndex_2 : decode cJ9_checkIndex 2 = .ok (.invokestatic 48, 3) := dk_184 0 48 (dk_at dksJ9_checkIndex_0 2 rfl rfl)
theorem dJ9_checkIndex_5 : decode cJ9_checkIndex 5 = .ok (.invokestatic 414, 3) := dk_184 1 158 (dk_at dksJ9_checkIndex_0 5 rfl rfl)
theorem dJ9_checkIndex_8 : decode cJ9_checkIndex 8 = .ok (.return_, 1) := dk_177 (dk_at dksJ9_checkIndex_0 8 rfl rfl)
abbrev cJ9_length : ByteArray := prog_29_method_6_code
def yJ9_length : MethodName := ⟨RJ9, "length", "([B)I"⟩
def dkwJ9_length_0 : List UInt8 := [42, 190, 4, 122, 172]
abbrev dktJ9_length_0 : List UInt8 := dkwJ9_length_0 ++ []
theorem dksJ9_length_0 : cJ9_length.data.toList.drop 0 = dktJ9_length_0 := by decide +kernel
theorem dJ9_length_0 : decode cJ9_length 0 = .ok (.aload_n 0, 1) := dk_42 (dk_at dksJ9_length_0 0 rfl rfl)
theorem dJ9_length_1 : decode cJ9_length 1 = .ok (.arraylength, 1) := dk_190 (dk_at dksJ9_length_0 1 rfl rfl)
theorem dJ9_length_2 : decode cJ9_length 2 = .ok (.iconst 1, 1) := dk_4 (dk_at dksJ9_length_0 2 rfl rfl)
theorem dJ9_length_3 : decode cJ9_length 3 = .ok (.ishr, 1) := dk_122 (dk_at dksJ9_length_0 3 rfl rfl)
theorem dJ9_length_4 : decode cJ9_length 4 = .ok (.ireturn, 1) := dk_172 (dk_at dksJ9_length_0 4 rfl rfl)
abbrev cJ9_getChar : ByteArray := prog_29_method_5_code
def yJ9_getChar : MethodName := ⟨RJ9, "getChar", "([BI)C"⟩
def dkwJ9_getChar_2 : List UInt8 := [51, 17, 0, 255, 126, 178, 0, 63, 120, 128, 146, 172]
abbrev dktJ9_getChar_2 : List UInt8 := dkwJ9_getChar_2 ++ []
def dkwJ9_getChar_1 : List UInt8 := [183, 0, 56, 191, 27, 4, 120, 60, 42, 27, 132, 1, 1, 51, 17, 0, 255, 126, 178, 0, 59, 120, 42, 27]
abbrev dktJ9_getChar_1 : List UInt8 := dkwJ9_getChar_1 ++ dktJ9_getChar_2
def dkwJ9_getChar_0 : List UInt8 := [178, 0, 44, 154, 0, 25, 27, 155, 0, 11, 27, 42, 184, 0, 48, 161, 0, 13, 187, 0, 52, 89, 18, 54]
abbrev dktJ9_getChar_0 : List UInt8 := dkwJ9_getChar_0 ++ dktJ9_getChar_1
theorem dksJ9_getChar_0 : cJ9_getChar.data.toList.drop 0 = dktJ9_getChar_0 := by decide +kernel
theorem dksJ9_getChar_1 : cJ9_getChar.data.toList.drop 24 = dktJ9_getChar_1 := dk_seg dksJ9_getChar_0 24 rfl rfl
theorem dksJ9_getChar_2 : cJ9_getChar.data.toList.drop 48 = dktJ9_getChar_2 := dk_seg dksJ9_getChar_1 24 rfl rfl
theorem dJ9_getChar_0 : decode cJ9_getChar 0 = .ok (.getstatic 44, 3) := dk_178 0 44 (dk_at dksJ9_getChar_0 0 rfl rfl)
theorem dJ9_getChar_3 : decode cJ9_getChar 3 = .ok (.ifCond .ne 25, 3) := dk_154 0 25 (dk_at dksJ9_getChar_0 3 rfl rfl)
theorem dJ9_getChar_6 : decode cJ9_getChar 6 = .ok (.iload_n 1, 1) := dk_27 (dk_at dksJ9_getChar_0 6 rfl rfl)
theorem dJ9_getChar_7 : decode cJ9_getChar 7 = .ok (.ifCond .lt 11, 3) := dk_155 0 11 (dk_at dksJ9_getChar_0 7 rfl rfl)
theorem dJ9_getChar_10 : decode cJ9_getChar 10 = .ok (.iload_n 1, 1) := dk_27 (dk_at dksJ9_getChar_0 10 rfl rfl)
theorem dJ9_getChar_11 : decode cJ9_getChar 11 = .ok (.aload_n 0, 1) := dk_42 (dk_at dksJ9_getChar_0 11 rfl rfl)
theorem dJ9_getChar_12 : decode cJ9_getChar 12 = .ok (.invokestatic 48, 3) := dk_184 0 48 (dk_at dksJ9_getChar_0 12 rfl rfl)
theorem dJ9_getChar_15 : decode cJ9_getChar 15 = .ok (.if_icmp .lt 13, 3) := dk_161 0 13 (dk_at dksJ9_getChar_0 15 rfl rfl)
theorem dJ9_getChar_18 : decode cJ9_getChar 18 = .ok (.new 52, 3) := dk_187 0 52 (dk_at dksJ9_getChar_0 18 rfl rfl)
theorem dJ9_getChar_21 : decode cJ9_getChar 21 = .ok (.dup, 1) := dk_89 (dk_at dksJ9_getChar_0 21 rfl rfl)
theorem dJ9_getChar_22 : decode cJ9_getChar 22 = .ok (.ldc 54, 2) := dk_18 54 (dk_at dksJ9_getChar_0 22 rfl rfl)
theorem dJ9_getChar_24 : decode cJ9_getChar 24 = .ok (.invokespecial 56, 3) := dk_183 0 56 (dk_at dksJ9_getChar_1 0 rfl rfl)
theorem dJ9_getChar_27 : decode cJ9_getChar 27 = .ok (.athrow, 1) := dk_191 (dk_at dksJ9_getChar_1 3 rfl rfl)
theorem dJ9_getChar_28 : decode cJ9_getChar 28 = .ok (.iload_n 1, 1) := dk_27 (dk_at dksJ9_getChar_1 4 rfl rfl)
theorem dJ9_getChar_29 : decode cJ9_getChar 29 = .ok (.iconst 1, 1) := dk_4 (dk_at dksJ9_getChar_1 5 rfl rfl)
theorem dJ9_getChar_30 : decode cJ9_getChar 30 = .ok (.ishl, 1) := dk_120 (dk_at dksJ9_getChar_1 6 rfl rfl)
theorem dJ9_getChar_31 : decode cJ9_getChar 31 = .ok (.istore_n 1, 1) := dk_60 (dk_at dksJ9_getChar_1 7 rfl rfl)
theorem dJ9_getChar_32 : decode cJ9_getChar 32 = .ok (.aload_n 0, 1) := dk_42 (dk_at dksJ9_getChar_1 8 rfl rfl)
theorem dJ9_getChar_33 : decode cJ9_getChar 33 = .ok (.iload_n 1, 1) := dk_27 (dk_at dksJ9_getChar_1 9 rfl rfl)
theorem dJ9_getChar_34 : decode cJ9_getChar 34 = .ok (.iinc 1 1, 3) := dk_132 1 1 (dk_at dksJ9_getChar_1 10 rfl rfl)
theorem dJ9_getChar_37 : decode cJ9_getChar 37 = .ok (.baload, 1) := dk_51 (dk_at dksJ9_getChar_1 13 rfl rfl)
theorem dJ9_getChar_38 : decode cJ9_getChar 38 = .ok (.sipush 255, 3) := dk_17 0 255 (dk_at dksJ9_getChar_1 14 rfl rfl)
theorem dJ9_getChar_41 : decode cJ9_getChar 41 = .ok (.iand, 1) := dk_126 (dk_at dksJ9_getChar_1 17 rfl rfl)
theorem dJ9_getChar_42 : decode cJ9_getChar 42 = .ok (.getstatic 59, 3) := dk_178 0 59 (dk_at dksJ9_getChar_1 18 rfl rfl)
theorem dJ9_getChar_45 : decode cJ9_getChar 45 = .ok (.ishl, 1) := dk_120 (dk_at dksJ9_getChar_1 21 rfl rfl)
theorem dJ9_getChar_46 : decode cJ9_getChar 46 = .ok (.aload_n 0, 1) := dk_42 (dk_at dksJ9_getChar_1 22 rfl rfl)
theorem dJ9_getChar_47 : decode cJ9_getChar 47 = .ok (.iload_n 1, 1) := dk_27 (dk_at dksJ9_getChar_1 23 rfl rfl)
theorem dJ9_getChar_48 : decode cJ9_getChar 48 = .ok (.baload, 1) := dk_51 (dk_at dksJ9_getChar_2 0 rfl rfl)
theorem dJ9_getChar_49 : decode cJ9_getChar 49 = .ok (.sipush 255, 3) := dk_17 0 255 (dk_at dksJ9_getChar_2 1 rfl rfl)
theorem dJ9_getChar_52 : decode cJ9_getChar 52 = .ok (.iand, 1) := dk_126 (dk_at dksJ9_getChar_2 4 rfl rfl)
theorem dJ9_getChar_53 : decode cJ9_getChar 53 = .ok (.getstatic 63, 3) := dk_178 0 63 (dk_at dksJ9_getChar_2 5 rfl rfl)
theorem dJ9_getChar_56 : decode cJ9_getChar 56 = .ok (.ishl, 1) := dk_120 (dk_at dksJ9_getChar_2 8 rfl rfl)
theorem dJ9_getChar_57 : decode cJ9_getChar 57 = .ok (.ior, 1) := dk_128 (dk_at dksJ9_getChar_2 9 rfl rfl)
theorem dJ9_getChar_58 : decode cJ9_getChar 58 = .ok (.i2c, 1) := dk_146 (dk_at dksJ9_getChar_2 10 rfl rfl)
theorem dJ9_getChar_59 : decode cJ9_getChar 59 = .ok (.ireturn, 1) := dk_172 (dk_at dksJ9_getChar_2 11 rfl rfl)
theorem q160 : (Jvm.Cond.initialized "java/lang/StringUTF16") ∈ lw_all := lw_g (lw_at lw_m1 18 rfl) rfl
theorem q612 : (Jvm.Cond.static ({ cls := "java/lang/StringUTF16", name := "charAt", desc := "([BI)C" } : Jvm.MethodName)) ∈ lw_all := lw_g (lw_at lw_m2 230 rfl) rfl
theorem q613 : (Jvm.Cond.code ({ cls := "java/lang/StringUTF16", name := "charAt", desc := "([BI)C" } : Jvm.MethodName) prog_29_method_83_code (2 : Nat) (Option.some Jvm.ClassFile.FieldType.char)) ∈ lw_all := lw_g (lw_at lw_m2 231 rfl) rfl
theorem q614 : (Jvm.Cond.methodLink "java/lang/StringUTF16" (67 : Nat) ({ cls := "java/lang/StringUTF16", name := "checkIndex", desc := "(I[B)V" } : Jvm.MethodName)) ∈ lw_all := lw_g (lw_at lw_m2 232 rfl) rfl
theorem q615 : (Jvm.Cond.static ({ cls := "java/lang/StringUTF16", name := "checkIndex", desc := "(I[B)V" } : Jvm.MethodName)) ∈ lw_all := lw_g (lw_at lw_m2 233 rfl) rfl
theorem q616 : (Jvm.Cond.code ({ cls := "java/lang/StringUTF16", name := "checkIndex", desc := "(I[B)V" } : Jvm.MethodName) prog_29_method_91_code (2 : Nat) (Option.none : Option Jvm.ClassFile.FieldType)) ∈ lw_all := lw_g (lw_at lw_m2 234 rfl) rfl
theorem q617 : (Jvm.Cond.methodLink "java/lang/StringUTF16" (48 : Nat) ({ cls := "java/lang/StringUTF16", name := "length", desc := "([B)I" } : Jvm.MethodName)) ∈ lw_all := lw_g (lw_at lw_m2 235 rfl) rfl
theorem q618 : (Jvm.Cond.static ({ cls := "java/lang/StringUTF16", name := "length", desc := "([B)I" } : Jvm.MethodName)) ∈ lw_all := lw_g (lw_at lw_m2 236 rfl) rfl
theorem q619 : (Jvm.Cond.code ({ cls := "java/lang/StringUTF16", name := "length", desc := "([B)I" } : Jvm.MethodName) prog_29_method_6_code (1 : Nat) (Option.some Jvm.ClassFile.FieldType.int)) ∈ lw_all := lw_g (lw_at lw_m2 237 rfl) rfl
theorem q620 : (Jvm.Cond.methodLink "java/lang/StringUTF16" (414 : Nat) ({ cls := "java/lang/String", name := "checkIndex", desc := "(II)V" } : Jvm.MethodName)) ∈ lw_all := lw_g (lw_at lw_m2 238 rfl) rfl
theorem q621 : (Jvm.Cond.methodLink "java/lang/StringUTF16" (71 : Nat) ({ cls := "java/lang/StringUTF16", name := "getChar", desc := "([BI)C" } : Jvm.MethodName)) ∈ lw_all := lw_g (lw_at lw_m2 239 rfl) rfl
theorem q622 : (Jvm.Cond.static ({ cls := "java/lang/StringUTF16", name := "getChar", desc := "([BI)C" } : Jvm.MethodName)) ∈ lw_all := lw_g (lw_at lw_m3 0 rfl) rfl
theorem q623 : (Jvm.Cond.code ({ cls := "java/lang/StringUTF16", name := "getChar", desc := "([BI)C" } : Jvm.MethodName) prog_29_method_5_code (2 : Nat) (Option.some Jvm.ClassFile.FieldType.char)) ∈ lw_all := lw_g (lw_at lw_m3 1 rfl) rfl
theorem q624 : (Jvm.Cond.fieldLink "java/lang/StringUTF16" (44 : Nat) "java/lang/StringUTF16" "$assertionsDisabled" "Z") ∈ lw_all := lw_g (lw_at lw_m3 2 rfl) rfl
theorem q625 : (Jvm.Cond.laysStatic "java/lang/StringUTF16" "$assertionsDisabled" "Z") ∈ lw_tbl := lw_at lw_m3 3 rfl
theorem q626 : (Jvm.Cond.fieldLink "java/lang/StringUTF16" (59 : Nat) "java/lang/StringUTF16" "HI_BYTE_SHIFT" "I") ∈ lw_all := lw_g (lw_at lw_m3 4 rfl) rfl
theorem q627 : (Jvm.Cond.laysStatic "java/lang/StringUTF16" "HI_BYTE_SHIFT" "I") ∈ lw_tbl := lw_at lw_m3 5 rfl
theorem q628 : (Jvm.Cond.fieldLink "java/lang/StringUTF16" (63 : Nat) "java/lang/StringUTF16" "LO_BYTE_SHIFT" "I") ∈ lw_all := lw_g (lw_at lw_m3 6 rfl) rfl
theorem q629 : (Jvm.Cond.laysStatic "java/lang/StringUTF16" "LO_BYTE_SHIFT" "I") ∈ lw_tbl := lw_at lw_m3 7 rfl
/-! java/lang/Throwable -/
set_option maxRecDepth 100000
def RJ10 : String := "java/lang/Throwable"
def TJ10 : u_T := fun k => match k with
  | 0 => ("java/lang/Throwable", "cause", "Ljava/lang/Throwable;", false)
  | 1 => ("java/lang/Throwable", "stackTrace", "[Ljava/lang/StackTraceElement;", false)
  | 2 => ("java/lang/Throwable", "suppressedExceptions", "Ljava/util/List;", false)
  | 3 => ("java/lang/Throwable", "detailMessage", "Ljava/lang/String;", false)
  | _ => ("java/lang/Throwable", "backtrace", "Ljava/lang/Object;", false)
def tyJ10 : Nat → FieldType := fun k => match k with
  | 0 => .object "java/lang/Throwable"
  | 1 => .array (.object "java/lang/StackTraceElement")
  | 2 => .object "java/util/List"
  | 3 => .object "java/lang/String"
  | _ => .object "java/lang/Object"
abbrev wsJ100 : List Cond := u_ws RJ10 TJ10 5
theorem nmJ10 : ∀ a, a < 5 → ∀ b, b < 5 → a ≠ b → (TJ10 a).2.1 ≠ (TJ10 b).2.1 := by decide +kernel
theorem tyJ10_ok : ∀ k, k < 5 → parseFieldDescriptor (TJ10 k).2.2.1 = some (tyJ10 k) := by decide +kernel
abbrev cJ10_init : ByteArray := prog_31_method_1_code
def yJ10_init : MethodName := ⟨RJ10, "<init>", "()V"⟩
def dkwJ10_init_1 : List UInt8 := [182, 0, 27, 87, 177]
abbrev dktJ10_init_1 : List UInt8 := dkwJ10_init_1 ++ []
def dkwJ10_init_0 : List UInt8 := [42, 183, 0, 1, 42, 42, 181, 0, 7, 42, 178, 0, 13, 181, 0, 17, 42, 178, 0, 20, 181, 0, 24, 42]
abbrev dktJ10_init_0 : List UInt8 := dkwJ10_init_0 ++ dktJ10_init_1
theorem dksJ10_init_0 : cJ10_init.data.toList.drop 0 = dktJ10_init_0 := by decide +kernel
theorem dksJ10_init_1 : cJ10_init.data.toList.drop 24 = dktJ10_init_1 := dk_seg dksJ10_init_0 24 rfl rfl
theorem dJ10_init_0 : decode cJ10_init 0 = .ok (.aload_n 0, 1) := dk_42 (dk_at dksJ10_init_0 0 rfl rfl)
theorem dJ10_init_1 : decode cJ10_init 1 = .ok (.invokespecial 1, 3) := dk_183 0 1 (dk_at dksJ10_init_0 1 rfl rfl)
theorem dJ10_init_4 : decode cJ10_init 4 = .ok (.aload_n 0, 1) := dk_42 (dk_at dksJ10_init_0 4 rfl rfl)
theorem dJ10_init_5 : decode cJ10_init 5 = .ok (.aload_n 0, 1) := dk_42 (dk_at dksJ10_init_0 5 rfl rfl)
theorem dJ10_init_6 : decode cJ10_init 6 = .ok (.putfield 7, 3) := dk_181 0 7 (dk_at dksJ10_init_0 6 rfl rfl)
theorem dJ10_init_9 : decode cJ10_init 9 = .ok (.aload_n 0, 1) := dk_42 (dk_at dksJ10_init_0 9 rfl rfl)
theorem dJ10_init_10 : decode cJ10_init 10 = .ok (.getstatic 13, 3) := dk_178 0 13 (dk_at dksJ10_init_0 10 rfl rfl)
theorem dJ10_init_13 : decode cJ10_init 13 = .ok (.putfield 17, 3) := dk_181 0 17 (dk_at dksJ10_init_0 13 rfl rfl)
theorem dJ10_init_16 : decode cJ10_init 16 = .ok (.aload_n 0, 1) := dk_42 (dk_at dksJ10_init_0 16 rfl rfl)
theorem dJ10_init_17 : decode cJ10_init 17 = .ok (.getstatic 20, 3) := dk_178 0 20 (dk_at dksJ10_init_0 17 rfl rfl)
theorem dJ10_init_20 : decode cJ10_init 20 = .ok (.putfield 24, 3) := dk_181 0 24 (dk_at dksJ10_init_0 20 rfl rfl)
theorem dJ10_init_23 : decode cJ10_init 23 = .ok (.aload_n 0, 1) := dk_42 (dk_at dksJ10_init_0 23 rfl rfl)
theorem dJ10_init_24 : decode cJ10_init 24 = .ok (.invokevirtual 27, 3) := dk_182 0 27 (dk_at dksJ10_init_1 0 rfl rfl)
theorem dJ10_init_27 : decode cJ10_init 27 = .ok (.pop, 1) := dk_87 (dk_at dksJ10_init_1 3 rfl rfl)
theorem dJ10_init_28 : decode cJ10_init 28 = .ok (.return_, 1) := dk_177 (dk_at dksJ10_init_1 4 rfl rfl)
theorem q161 : (Jvm.Cond.initialized "java/lang/Throwable") ∈ lw_all := lw_g (lw_at lw_m1 19 rfl) rfl
theorem q679 : (Jvm.Cond.declares ({ cls := "java/lang/Throwable", name := "<init>", desc := "()V" } : Jvm.MethodName)) ∈ lw_tbl := lw_at lw_m3 57 rfl
theorem q680 : (Jvm.Cond.declares ({ cls := "java/lang/Throwable", name := "<init>", desc := "(Ljava/lang/String;)V" } : Jvm.MethodName)) ∈ lw_tbl := lw_at lw_m3 58 rfl
theorem q684 : (Jvm.Cond.lays "java/lang/Throwable" "java/lang/Throwable" "cause" "Ljava/lang/Throwable;") ∈ lw_all := lw_g (lw_at lw_m3 62 rfl) rfl
theorem q686 : (Jvm.Cond.lays "java/lang/Throwable" "java/lang/Throwable" "stackTrace" "[Ljava/lang/StackTraceElement;") ∈ lw_all := lw_g (lw_at lw_m3 64 rfl) rfl
theorem q688 : (Jvm.Cond.lays "java/lang/Throwable" "java/lang/Throwable" "suppressedExceptions" "Ljava/util/List;") ∈ lw_all := lw_g (lw_at lw_m3 66 rfl) rfl
theorem q690 : (Jvm.Cond.lays "java/lang/Throwable" "java/lang/Throwable" "detailMessage" "Ljava/lang/String;") ∈ lw_all := lw_g (lw_at lw_m3 68 rfl) rfl
theorem q692 : (Jvm.Cond.lays "java/lang/Throwable" "java/lang/Throwable" "backtrace" "Ljava/lang/Object;") ∈ lw_all := lw_g (lw_at lw_m3 70 rfl) rfl
theorem q693 : (Jvm.Cond.fieldLink "java/lang/Throwable" (198 : Nat) "java/lang/Throwable" "backtrace" "Ljava/lang/Object;") ∈ lw_all := lw_g (lw_at lw_m3 71 rfl) rfl
theorem q694 : (Jvm.Cond.superclass "java/lang/Throwable" "java/lang/Object") ∈ lw_all := lw_g (lw_at lw_m3 72 rfl) rfl
theorem q695 : (Jvm.Cond.instanceMethod ({ cls := "java/lang/Throwable", name := "<init>", desc := "()V" } : Jvm.MethodName)) ∈ lw_all := lw_g (lw_at lw_m3 73 rfl) rfl
theorem q696 : (Jvm.Cond.code ({ cls := "java/lang/Throwable", name := "<init>", desc := "()V" } : Jvm.MethodName) prog_31_method_1_code (1 : Nat) (Option.none : Option Jvm.ClassFile.FieldType)) ∈ lw_all := lw_g (lw_at lw_m3 74 rfl) rfl
theorem q697 : (Jvm.Cond.methodLink "java/lang/Throwable" (1 : Nat) ({ cls := "java/lang/Object", name := "<init>", desc := "()V" } : Jvm.MethodName)) ∈ lw_all := lw_g (lw_at lw_m3 75 rfl) rfl
theorem q698 : (Jvm.Cond.fieldLink "java/lang/Throwable" (13 : Nat) "java/lang/Throwable" "UNASSIGNED_STACK" "[Ljava/lang/StackTraceElement;") ∈ lw_all := lw_g (lw_at lw_m3 76 rfl) rfl
theorem q699 : (Jvm.Cond.laysStatic "java/lang/Throwable" "UNASSIGNED_STACK" "[Ljava/lang/StackTraceElement;") ∈ lw_tbl := lw_at lw_m3 77 rfl
theorem q700 : (Jvm.Cond.fieldLink "java/lang/Throwable" (20 : Nat) "java/lang/Throwable" "SUPPRESSED_SENTINEL" "Ljava/util/List;") ∈ lw_all := lw_g (lw_at lw_m3 78 rfl) rfl
theorem q701 : (Jvm.Cond.laysStatic "java/lang/Throwable" "SUPPRESSED_SENTINEL" "Ljava/util/List;") ∈ lw_tbl := lw_at lw_m3 79 rfl
theorem q702 : (Jvm.Cond.methodLink "java/lang/Throwable" (27 : Nat) ({ cls := "java/lang/Throwable", name := "fillInStackTrace", desc := "()Ljava/lang/Throwable;" } : Jvm.MethodName)) ∈ lw_all := lw_g (lw_at lw_m3 80 rfl) rfl
theorem q703 : (Jvm.Cond.instanceMethod ({ cls := "java/lang/Throwable", name := "fillInStackTrace", desc := "()Ljava/lang/Throwable;" } : Jvm.MethodName)) ∈ lw_all := lw_g (lw_at lw_m3 81 rfl) rfl
theorem q704 : (Jvm.Cond.sameMethod "java/lang/Throwable" "java/lang/Throwable" "fillInStackTrace" "()Ljava/lang/Throwable;") ∈ lw_all := lw_g (lw_at lw_m3 82 rfl) rfl
theorem q705 : (Jvm.Cond.codeSync ({ cls := "java/lang/Throwable", name := "fillInStackTrace", desc := "()Ljava/lang/Throwable;" } : Jvm.MethodName) prog_31_method_18_code (1 : Nat) (Option.some (Jvm.ClassFile.FieldType.object "java/lang/Throwable"))) ∈ lw_all := lw_g (lw_at lw_m3 83 rfl) rfl
theorem q706 : (Jvm.Cond.methodLink "java/lang/Throwable" (202 : Nat) ({ cls := "java/lang/Throwable", name := "fillInStackTrace", desc := "(I)Ljava/lang/Throwable;" } : Jvm.MethodName)) ∈ lw_all := lw_g (lw_at lw_m3 84 rfl) rfl
theorem q707 : (Jvm.Cond.privateMethod ({ cls := "java/lang/Throwable", name := "fillInStackTrace", desc := "(I)Ljava/lang/Throwable;" } : Jvm.MethodName)) ∈ lw_tbl := lw_at lw_m3 85 rfl
theorem q708 : (Jvm.Cond.instanceMethod ({ cls := "java/lang/Throwable", name := "fillInStackTrace", desc := "(I)Ljava/lang/Throwable;" } : Jvm.MethodName)) ∈ lw_all := lw_g (lw_at lw_m3 86 rfl) rfl
theorem q709 : (Jvm.Cond.instantiable "java/lang/Throwable" (6 : Nat)) ∈ lw_all := lw_g (lw_at lw_m3 87 rfl) rfl
theorem q710 : (Jvm.Cond.native ({ cls := "java/lang/Throwable", name := "fillInStackTrace", desc := "(I)Ljava/lang/Throwable;" } : Jvm.MethodName)) ∈ lw_all := lw_g (lw_at lw_m3 88 rfl) rfl
theorem q722 : (Jvm.Cond.fieldLink "java/lang/Throwable" (198 : Nat) "java/lang/Throwable" "backtrace" "Ljava/lang/Object;") ∈ lw_all := lw_g (lw_at lw_m3 100 rfl) rfl
theorem q723 : (Jvm.Cond.fieldLink "java/lang/Throwable" (7 : Nat) "java/lang/Throwable" "cause" "Ljava/lang/Throwable;") ∈ lw_all := lw_g (lw_at lw_m3 101 rfl) rfl
theorem q724 : (Jvm.Cond.fieldLink "java/lang/Throwable" (17 : Nat) "java/lang/Throwable" "stackTrace" "[Ljava/lang/StackTraceElement;") ∈ lw_all := lw_g (lw_at lw_m3 102 rfl) rfl
theorem q725 : (Jvm.Cond.fieldLink "java/lang/Throwable" (24 : Nat) "java/lang/Throwable" "suppressedExceptions" "Ljava/util/List;") ∈ lw_all := lw_g (lw_at lw_m3 103 rfl) rfl
theorem q730 : (Jvm.Cond.soleField "java/lang/Throwable" "backtrace") ∈ lw_all := lw_g (lw_at lw_m3 108 rfl) rfl
theorem q731 : (Jvm.Cond.soleField "java/lang/Throwable" "detailMessage") ∈ lw_all := lw_g (lw_at lw_m3 109 rfl) rfl
theorem q732 : (Jvm.Cond.soleField "java/lang/Throwable" "cause") ∈ lw_all := lw_g (lw_at lw_m3 110 rfl) rfl
theorem q733 : (Jvm.Cond.soleField "java/lang/Throwable" "stackTrace") ∈ lw_all := lw_g (lw_at lw_m3 111 rfl) rfl
theorem q735 : (Jvm.Cond.soleField "java/lang/Throwable" "depth") ∈ lw_all := lw_g (lw_at lw_m3 113 rfl) rfl
theorem q736 : (Jvm.Cond.soleField "java/lang/Throwable" "suppressedExceptions") ∈ lw_all := lw_g (lw_at lw_m3 114 rfl) rfl
theorem q2072 : (Jvm.Cond.sameMethod "java/lang/Throwable" "java/lang/Throwable" "fillInStackTrace" "(I)Ljava/lang/Throwable;") ∈ lw_all := lw_g (lw_at lw_m9 10 rfl) rfl
theorem q2090 : (Jvm.Cond.castable "java/lang/Throwable" "java/lang/Object") ∈ lw_tbl := lw_at lw_m9 28 rfl
theorem in_J10 : ∀ w ∈ wsJ100, w ∈ lw_all := lw_in wsJ100 [684, 686, 688, 690, 692] (by decide +kernel) (by decide +kernel)
/-! java/lang/Exception -/
set_option maxRecDepth 100000
def RJ11 : String := "java/lang/Exception"
abbrev cJ11_init : ByteArray := prog_23_method_1_code
def yJ11_init : MethodName := ⟨RJ11, "<init>", "()V"⟩
theorem dJ11_init_0 : decode cJ11_init 0 = .ok (.aload_n 0, 1) := by decide +kernel
theorem dJ11_init_1 : decode cJ11_init 1 = .ok (.invokespecial 1, 3) := by decide +kernel
theorem dJ11_init_4 : decode cJ11_init 4 = .ok (.return_, 1) := by decide +kernel
theorem q162 : (Jvm.Cond.initialized "java/lang/Exception") ∈ lw_all := lw_g (lw_at lw_m1 20 rfl) rfl
theorem q677 : (Jvm.Cond.declares ({ cls := "java/lang/Exception", name := "<init>", desc := "()V" } : Jvm.MethodName)) ∈ lw_tbl := lw_at lw_m3 55 rfl
theorem q678 : (Jvm.Cond.declares ({ cls := "java/lang/Exception", name := "<init>", desc := "(Ljava/lang/String;)V" } : Jvm.MethodName)) ∈ lw_tbl := lw_at lw_m3 56 rfl
theorem q715 : (Jvm.Cond.instanceMethod ({ cls := "java/lang/Exception", name := "<init>", desc := "()V" } : Jvm.MethodName)) ∈ lw_all := lw_g (lw_at lw_m3 93 rfl) rfl
theorem q716 : (Jvm.Cond.code ({ cls := "java/lang/Exception", name := "<init>", desc := "()V" } : Jvm.MethodName) prog_23_method_1_code (1 : Nat) (Option.none : Option Jvm.ClassFile.FieldType)) ∈ lw_all := lw_g (lw_at lw_m3 94 rfl) rfl
theorem q717 : (Jvm.Cond.methodLink "java/lang/Exception" (1 : Nat) ({ cls := "java/lang/Throwable", name := "<init>", desc := "()V" } : Jvm.MethodName)) ∈ lw_all := lw_g (lw_at lw_m3 95 rfl) rfl
/-! jdk/internal/util/ArraysSupport -/
set_option maxRecDepth 100000
def RJ12 : String := "jdk/internal/util/ArraysSupport"
abbrev cJ12_newLength : ByteArray := prog_43_method_27_code
def yJ12_newLength : MethodName := ⟨RJ12, "newLength", "(III)I"⟩
def dkwJ12_newLength_1 : List UInt8 := [184, 0, 201, 172]
abbrev dktJ12_newLength_1 : List UInt8 := dkwJ12_newLength_1 ++ []
def dkwJ12_newLength_0 : List UInt8 := [26, 27, 28, 184, 0, 194, 96, 62, 3, 29, 162, 0, 11, 29, 18, 200, 163, 0, 5, 29, 172, 26, 27]
abbrev dktJ12_newLength_0 : List UInt8 := dkwJ12_newLength_0 ++ dktJ12_newLength_1
theorem dksJ12_newLength_0 : cJ12_newLength.data.toList.drop 0 = dktJ12_newLength_0 := by decide +kernel
theorem dksJ12_newLength_1 : cJ12_newLength.data.toList.drop 23 = dktJ12_newLength_1 := dk_seg dksJ12_newLength_0 23 rfl rfl
theorem dJ12_newLength_0 : decode cJ12_newLength 0 = .ok (.iload_n 0, 1) := dk_26 (dk_at dksJ12_newLength_0 0 rfl rfl)
theorem dJ12_newLength_1 : decode cJ12_newLength 1 = .ok (.iload_n 1, 1) := dk_27 (dk_at dksJ12_newLength_0 1 rfl rfl)
theorem dJ12_newLength_2 : decode cJ12_newLength 2 = .ok (.iload_n 2, 1) := dk_28 (dk_at dksJ12_newLength_0 2 rfl rfl)
theorem dJ12_newLength_3 : decode cJ12_newLength 3 = .ok (.invokestatic 194, 3) := dk_184 0 194 (dk_at dksJ12_newLength_0 3 rfl rfl)
theorem dJ12_newLength_6 : decode cJ12_newLength 6 = .ok (.iadd, 1) := dk_96 (dk_at dksJ12_newLength_0 6 rfl rfl)
theorem dJ12_newLength_7 : decode cJ12_newLength 7 = .ok (.istore_n 3, 1) := dk_62 (dk_at dksJ12_newLength_0 7 rfl rfl)
theorem dJ12_newLength_8 : decode cJ12_newLength 8 = .ok (.iconst 0, 1) := dk_3 (dk_at dksJ12_newLength_0 8 rfl rfl)
theorem dJ12_newLength_9 : decode cJ12_newLength 9 = .ok (.iload_n 3, 1) := dk_29 (dk_at dksJ12_newLength_0 9 rfl rfl)
theorem dJ12_newLength_10 : decode cJ12_newLength 10 = .ok (.if_icmp .ge 11, 3) := dk_162 0 11 (dk_at dksJ12_newLength_0 10 rfl rfl)
theorem dJ12_newLength_13 : decode cJ12_newLength 13 = .ok (.iload_n 3, 1) := dk_29 (dk_at dksJ12_newLength_0 13 rfl rfl)
theorem dJ12_newLength_14 : decode cJ12_newLength 14 = .ok (.ldc 200, 2) := dk_18 200 (dk_at dksJ12_newLength_0 14 rfl rfl)
theorem dJ12_newLength_16 : decode cJ12_newLength 16 = .ok (.if_icmp .gt 5, 3) := dk_163 0 5 (dk_at dksJ12_newLength_0 16 rfl rfl)
theorem dJ12_newLength_19 : decode cJ12_newLength 19 = .ok (.iload_n 3, 1) := dk_29 (dk_at dksJ12_newLength_0 19 rfl rfl)
theorem dJ12_newLength_20 : decode cJ12_newLength 20 = .ok (.ireturn, 1) := dk_172 (dk_at dksJ12_newLength_0 20 rfl rfl)
theorem dJ12_newLength_21 : decode cJ12_newLength 21 = .ok (.iload_n 0, 1) := dk_26 (dk_at dksJ12_newLength_0 21 rfl rfl)
theorem dJ12_newLength_22 : decode cJ12_newLength 22 = .ok (.iload_n 1, 1) := dk_27 (dk_at dksJ12_newLength_0 22 rfl rfl)
theorem dJ12_newLength_23 : decode cJ12_newLength 23 = .ok (.invokestatic 201, 3) := dk_184 0 201 (dk_at dksJ12_newLength_1 0 rfl rfl)
theorem dJ12_newLength_26 : decode cJ12_newLength 26 = .ok (.ireturn, 1) := dk_172 (dk_at dksJ12_newLength_1 3 rfl rfl)
abbrev cJ12_hugeLength : ByteArray := prog_43_method_28_code
def yJ12_hugeLength : MethodName := ⟨RJ12, "hugeLength", "(II)I"⟩
def dkwJ12_hugeLength_2 : List UInt8 := [191, 28, 18, 200, 163, 0, 6, 18, 200, 172, 28, 172]
abbrev dktJ12_hugeLength_2 : List UInt8 := dkwJ12_hugeLength_2 ++ []
def dkwJ12_hugeLength_1 : List UInt8 := [26, 182, 0, 98, 18, 208, 182, 0, 94, 27, 182, 0, 98, 18, 210, 182, 0, 94, 182, 0, 101, 183, 0, 212]
abbrev dktJ12_hugeLength_1 : List UInt8 := dkwJ12_hugeLength_1 ++ dktJ12_hugeLength_2
def dkwJ12_hugeLength_0 : List UInt8 := [26, 27, 96, 61, 28, 156, 0, 44, 187, 0, 204, 89, 187, 0, 89, 89, 183, 0, 91, 18, 206, 182, 0, 94]
abbrev dktJ12_hugeLength_0 : List UInt8 := dkwJ12_hugeLength_0 ++ dktJ12_hugeLength_1
theorem dksJ12_hugeLength_0 : cJ12_hugeLength.data.toList.drop 0 = dktJ12_hugeLength_0 := by decide +kernel
theorem dksJ12_hugeLength_1 : cJ12_hugeLength.data.toList.drop 24 = dktJ12_hugeLength_1 := dk_seg dksJ12_hugeLength_0 24 rfl rfl
theorem dksJ12_hugeLength_2 : cJ12_hugeLength.data.toList.drop 48 = dktJ12_hugeLength_2 := dk_seg dksJ12_hugeLength_1 24 rfl rfl
theorem dJ12_hugeLength_0 : decode cJ12_hugeLength 0 = .ok (.iload_n 0, 1) := dk_26 (dk_at dksJ12_hugeLength_0 0 rfl rfl)
theorem dJ12_hugeLength_1 : decode cJ12_hugeLength 1 = .ok (.iload_n 1, 1) := dk_27 (dk_at dksJ12_hugeLength_0 1 rfl rfl)
theorem dJ12_hugeLength_2 : decode cJ12_hugeLength 2 = .ok (.iadd, 1) := dk_96 (dk_at dksJ12_hugeLength_0 2 rfl rfl)
theorem dJ12_hugeLength_3 : decode cJ12_hugeLength 3 = .ok (.istore_n 2, 1) := dk_61 (dk_at dksJ12_hugeLength_0 3 rfl rfl)
theorem dJ12_hugeLength_4 : decode cJ12_hugeLength 4 = .ok (.iload_n 2, 1) := dk_28 (dk_at dksJ12_hugeLength_0 4 rfl rfl)
theorem dJ12_hugeLength_5 : decode cJ12_hugeLength 5 = .ok (.ifCond .ge 44, 3) := dk_156 0 44 (dk_at dksJ12_hugeLength_0 5 rfl rfl)
theorem dJ12_hugeLength_8 : decode cJ12_hugeLength 8 = .ok (.new 204, 3) := dk_187 0 204 (dk_at dksJ12_hugeLength_0 8 rfl rfl)
theorem dJ12_hugeLength_11 : decode cJ12_hugeLength 11 = .ok (.dup, 1) := dk_89 (dk_at dksJ12_hugeLength_0 11 rfl rfl)
theorem dJ12_hugeLength_12 : decode cJ12_hugeLength 12 = .ok (.new 89, 3) := dk_187 0 89 (dk_at dksJ12_hugeLength_0 12 rfl rfl)
theorem dJ12_hugeLength_15 : decode cJ12_hugeLength 15 = .ok (.dup, 1) := dk_89 (dk_at dksJ12_hugeLength_0 15 rfl rfl)
theorem dJ12_hugeLength_16 : decode cJ12_hugeLength 16 = .ok (.invokespecial 91, 3) := dk_183 0 91 (dk_at dksJ12_hugeLength_0 16 rfl rfl)
theorem dJ12_hugeLength_19 : decode cJ12_hugeLength 19 = .ok (.ldc 206, 2) := dk_18 206 (dk_at dksJ12_hugeLength_0 19 rfl rfl)
theorem dJ12_hugeLength_21 : decode cJ12_hugeLength 21 = .ok (.invokevirtual 94, 3) := dk_182 0 94 (dk_at dksJ12_hugeLength_0 21 rfl rfl)
theorem dJ12_hugeLength_24 : decode cJ12_hugeLength 24 = .ok (.iload_n 0, 1) := dk_26 (dk_at dksJ12_hugeLength_1 0 rfl rfl)
theorem dJ12_hugeLength_25 : decode cJ12_hugeLength 25 = .ok (.invokevirtual 98, 3) := dk_182 0 98 (dk_at dksJ12_hugeLength_1 1 rfl rfl)
theorem dJ12_hugeLength_28 : decode cJ12_hugeLength 28 = .ok (.ldc 208, 2) := dk_18 208 (dk_at dksJ12_hugeLength_1 4 rfl rfl)
theorem dJ12_hugeLength_30 : decode cJ12_hugeLength 30 = .ok (.invokevirtual 94, 3) := dk_182 0 94 (dk_at dksJ12_hugeLength_1 6 rfl rfl)
theorem dJ12_hugeLength_33 : decode cJ12_hugeLength 33 = .ok (.iload_n 1, 1) := dk_27 (dk_at dksJ12_hugeLength_1 9 rfl rfl)
theorem dJ12_hugeLength_34 : decode cJ12_hugeLength 34 = .ok (.invokevirtual 98, 3) := dk_182 0 98 (dk_at dksJ12_hugeLength_1 10 rfl rfl)
theorem dJ12_hugeLength_37 : decode cJ12_hugeLength 37 = .ok (.ldc 210, 2) := dk_18 210 (dk_at dksJ12_hugeLength_1 13 rfl rfl)
theorem dJ12_hugeLength_39 : decode cJ12_hugeLength 39 = .ok (.invokevirtual 94, 3) := dk_182 0 94 (dk_at dksJ12_hugeLength_1 15 rfl rfl)
theorem dJ12_hugeLength_42 : decode cJ12_hugeLength 42 = .ok (.invokevirtual 101, 3) := dk_182 0 101 (dk_at dksJ12_hugeLength_1 18 rfl rfl)
theorem dJ12_hugeLength_45 : decode cJ12_hugeLength 45 = .ok (.invokespecial 212, 3) := dk_183 0 212 (dk_at dksJ12_hugeLength_1 21 rfl rfl)
theorem dJ12_hugeLength_48 : decode cJ12_hugeLength 48 = .ok (.athrow, 1) := dk_191 (dk_at dksJ12_hugeLength_2 0 rfl rfl)
theorem dJ12_hugeLength_49 : decode cJ12_hugeLength 49 = .ok (.iload_n 2, 1) := dk_28 (dk_at dksJ12_hugeLength_2 1 rfl rfl)
theorem dJ12_hugeLength_50 : decode cJ12_hugeLength 50 = .ok (.ldc 200, 2) := dk_18 200 (dk_at dksJ12_hugeLength_2 2 rfl rfl)
theorem dJ12_hugeLength_52 : decode cJ12_hugeLength 52 = .ok (.if_icmp .gt 6, 3) := dk_163 0 6 (dk_at dksJ12_hugeLength_2 4 rfl rfl)
theorem dJ12_hugeLength_55 : decode cJ12_hugeLength 55 = .ok (.ldc 200, 2) := dk_18 200 (dk_at dksJ12_hugeLength_2 7 rfl rfl)
theorem dJ12_hugeLength_57 : decode cJ12_hugeLength 57 = .ok (.ireturn, 1) := dk_172 (dk_at dksJ12_hugeLength_2 9 rfl rfl)
theorem dJ12_hugeLength_58 : decode cJ12_hugeLength 58 = .ok (.iload_n 2, 1) := dk_28 (dk_at dksJ12_hugeLength_2 10 rfl rfl)
theorem dJ12_hugeLength_59 : decode cJ12_hugeLength 59 = .ok (.ireturn, 1) := dk_172 (dk_at dksJ12_hugeLength_2 11 rfl rfl)
theorem q170 : (Jvm.Cond.initialized "jdk/internal/util/ArraysSupport") ∈ lw_all := lw_g (lw_at lw_m1 28 rfl) rfl
theorem q863 : (Jvm.Cond.static ({ cls := "jdk/internal/util/ArraysSupport", name := "newLength", desc := "(III)I" } : Jvm.MethodName)) ∈ lw_all := lw_g (lw_at lw_m4 1 rfl) rfl
theorem q864 : (Jvm.Cond.code ({ cls := "jdk/internal/util/ArraysSupport", name := "newLength", desc := "(III)I" } : Jvm.MethodName) prog_43_method_27_code (4 : Nat) (Option.some Jvm.ClassFile.FieldType.int)) ∈ lw_all := lw_g (lw_at lw_m4 2 rfl) rfl
theorem q865 : (Jvm.Cond.methodLink "jdk/internal/util/ArraysSupport" (194 : Nat) ({ cls := "java/lang/Math", name := "max", desc := "(II)I" } : Jvm.MethodName)) ∈ lw_all := lw_g (lw_at lw_m4 3 rfl) rfl
theorem q868 : (Jvm.Cond.constant "jdk/internal/util/ArraysSupport" (200 : Nat) (2147483639 : Int32)) ∈ lw_all := lw_g (lw_at lw_m4 6 rfl) rfl
theorem q869 : (Jvm.Cond.methodLink "jdk/internal/util/ArraysSupport" (201 : Nat) ({ cls := "jdk/internal/util/ArraysSupport", name := "hugeLength", desc := "(II)I" } : Jvm.MethodName)) ∈ lw_all := lw_g (lw_at lw_m4 7 rfl) rfl
theorem q870 : (Jvm.Cond.static ({ cls := "jdk/internal/util/ArraysSupport", name := "hugeLength", desc := "(II)I" } : Jvm.MethodName)) ∈ lw_all := lw_g (lw_at lw_m4 8 rfl) rfl
theorem q871 : (Jvm.Cond.code ({ cls := "jdk/internal/util/ArraysSupport", name := "hugeLength", desc := "(II)I" } : Jvm.MethodName) prog_43_method_28_code (3 : Nat) (Option.some Jvm.ClassFile.FieldType.int)) ∈ lw_all := lw_g (lw_at lw_m4 9 rfl) rfl
/-! java/util/Arrays -/
set_option maxRecDepth 100000
def RJ13 : String := "java/util/Arrays"
abbrev cJ13_copyOf : ByteArray := prog_37_method_119_code
def yJ13_copyOf : MethodName := ⟨RJ13, "copyOf", "([Ljava/lang/Object;I)[Ljava/lang/Object;"⟩
def dkwJ13_copyOf_0 : List UInt8 := [42, 27, 42, 182, 0, 86, 184, 1, 44, 176]
abbrev dktJ13_copyOf_0 : List UInt8 := dkwJ13_copyOf_0 ++ []
theorem dksJ13_copyOf_0 : cJ13_copyOf.data.toList.drop 0 = dktJ13_copyOf_0 := by decide +kernel
theorem dJ13_copyOf_0 : decode cJ13_copyOf 0 = .ok (.aload_n 0, 1) := dk_42 (dk_at dksJ13_copyOf_0 0 rfl rfl)
theorem dJ13_copyOf_1 : decode cJ13_copyOf 1 = .ok (.iload_n 1, 1) := dk_27 (dk_at dksJ13_copyOf_0 1 rfl rfl)
theorem dJ13_copyOf_2 : decode cJ13_copyOf 2 = .ok (.aload_n 0, 1) := dk_42 (dk_at dksJ13_copyOf_0 2 rfl rfl)
theorem dJ13_copyOf_3 : decode cJ13_copyOf 3 = .ok (.invokevirtual 86, 3) := dk_182 0 86 (dk_at dksJ13_copyOf_0 3 rfl rfl)
theorem dJ13_copyOf_6 : decode cJ13_copyOf 6 = .ok (.invokestatic 300, 3) := dk_184 1 44 (dk_at dksJ13_copyOf_0 6 rfl rfl)
theorem dJ13_copyOf_9 : decode cJ13_copyOf 9 = .ok (.areturn, 1) := dk_176 (dk_at dksJ13_copyOf_0 9 rfl rfl)
abbrev cJ13_copyOf_2 : ByteArray := prog_37_method_120_code
def yJ13_copyOf_2 : MethodName := ⟨RJ13, "copyOf", "([Ljava/lang/Object;ILjava/lang/Class;)[Ljava/lang/Object;"⟩
def dkwJ13_copyOf_2_1 : List UInt8 := [78, 42, 3, 45, 3, 42, 190, 27, 184, 1, 48, 184, 0, 150, 45, 176]
abbrev dktJ13_copyOf_2_1 : List UInt8 := dkwJ13_copyOf_2_1 ++ []
def dkwJ13_copyOf_2_0 : List UInt8 := [44, 18, 110, 166, 0, 10, 27, 189, 0, 2, 167, 0, 14, 44, 182, 0, 90, 27, 184, 0, 95, 192, 0, 110]
abbrev dktJ13_copyOf_2_0 : List UInt8 := dkwJ13_copyOf_2_0 ++ dktJ13_copyOf_2_1
theorem dksJ13_copyOf_2_0 : cJ13_copyOf_2.data.toList.drop 0 = dktJ13_copyOf_2_0 := by decide +kernel
theorem dksJ13_copyOf_2_1 : cJ13_copyOf_2.data.toList.drop 24 = dktJ13_copyOf_2_1 := dk_seg dksJ13_copyOf_2_0 24 rfl rfl
theorem dJ13_copyOf_2_0 : decode cJ13_copyOf_2 0 = .ok (.aload_n 2, 1) := dk_44 (dk_at dksJ13_copyOf_2_0 0 rfl rfl)
theorem dJ13_copyOf_2_1 : decode cJ13_copyOf_2 1 = .ok (.ldc 110, 2) := dk_18 110 (dk_at dksJ13_copyOf_2_0 1 rfl rfl)
theorem dJ13_copyOf_2_3 : decode cJ13_copyOf_2 3 = .ok (.if_acmp .ne 10, 3) := dk_166 0 10 (dk_at dksJ13_copyOf_2_0 3 rfl rfl)
theorem dJ13_copyOf_2_6 : decode cJ13_copyOf_2 6 = .ok (.iload_n 1, 1) := dk_27 (dk_at dksJ13_copyOf_2_0 6 rfl rfl)
theorem dJ13_copyOf_2_7 : decode cJ13_copyOf_2 7 = .ok (.anewarray 2, 3) := dk_189 0 2 (dk_at dksJ13_copyOf_2_0 7 rfl rfl)
theorem dJ13_copyOf_2_10 : decode cJ13_copyOf_2 10 = .ok (.goto 14, 3) := dk_167 0 14 (dk_at dksJ13_copyOf_2_0 10 rfl rfl)
theorem dJ13_copyOf_2_13 : decode cJ13_copyOf_2 13 = .ok (.aload_n 2, 1) := dk_44 (dk_at dksJ13_copyOf_2_0 13 rfl rfl)
theorem dJ13_copyOf_2_14 : decode cJ13_copyOf_2 14 = .ok (.invokevirtual 90, 3) := dk_182 0 90 (dk_at dksJ13_copyOf_2_0 14 rfl rfl)
theorem dJ13_copyOf_2_17 : decode cJ13_copyOf_2 17 = .ok (.iload_n 1, 1) := dk_27 (dk_at dksJ13_copyOf_2_0 17 rfl rfl)
theorem dJ13_copyOf_2_18 : decode cJ13_copyOf_2 18 = .ok (.invokestatic 95, 3) := dk_184 0 95 (dk_at dksJ13_copyOf_2_0 18 rfl rfl)
theorem dJ13_copyOf_2_21 : decode cJ13_copyOf_2 21 = .ok (.checkcast 110, 3) := dk_192 0 110 (dk_at dksJ13_copyOf_2_0 21 rfl rfl)
theorem dJ13_copyOf_2_24 : decode cJ13_copyOf_2 24 = .ok (.astore_n 3, 1) := dk_78 (dk_at dksJ13_copyOf_2_1 0 rfl rfl)
theorem dJ13_copyOf_2_25 : decode cJ13_copyOf_2 25 = .ok (.aload_n 0, 1) := dk_42 (dk_at dksJ13_copyOf_2_1 1 rfl rfl)
theorem dJ13_copyOf_2_26 : decode cJ13_copyOf_2 26 = .ok (.iconst 0, 1) := dk_3 (dk_at dksJ13_copyOf_2_1 2 rfl rfl)
theorem dJ13_copyOf_2_27 : decode cJ13_copyOf_2 27 = .ok (.aload_n 3, 1) := dk_45 (dk_at dksJ13_copyOf_2_1 3 rfl rfl)
theorem dJ13_copyOf_2_28 : decode cJ13_copyOf_2 28 = .ok (.iconst 0, 1) := dk_3 (dk_at dksJ13_copyOf_2_1 4 rfl rfl)
theorem dJ13_copyOf_2_29 : decode cJ13_copyOf_2 29 = .ok (.aload_n 0, 1) := dk_42 (dk_at dksJ13_copyOf_2_1 5 rfl rfl)
theorem dJ13_copyOf_2_30 : decode cJ13_copyOf_2 30 = .ok (.arraylength, 1) := dk_190 (dk_at dksJ13_copyOf_2_1 6 rfl rfl)
theorem dJ13_copyOf_2_31 : decode cJ13_copyOf_2 31 = .ok (.iload_n 1, 1) := dk_27 (dk_at dksJ13_copyOf_2_1 7 rfl rfl)
theorem dJ13_copyOf_2_32 : decode cJ13_copyOf_2 32 = .ok (.invokestatic 304, 3) := dk_184 1 48 (dk_at dksJ13_copyOf_2_1 8 rfl rfl)
theorem dJ13_copyOf_2_35 : decode cJ13_copyOf_2 35 = .ok (.invokestatic 150, 3) := dk_184 0 150 (dk_at dksJ13_copyOf_2_1 11 rfl rfl)
theorem dJ13_copyOf_2_38 : decode cJ13_copyOf_2 38 = .ok (.aload_n 3, 1) := dk_45 (dk_at dksJ13_copyOf_2_1 14 rfl rfl)
theorem dJ13_copyOf_2_39 : decode cJ13_copyOf_2 39 = .ok (.areturn, 1) := dk_176 (dk_at dksJ13_copyOf_2_1 15 rfl rfl)
theorem q171 : (Jvm.Cond.initialized "java/util/Arrays") ∈ lw_all := lw_g (lw_at lw_m1 29 rfl) rfl
theorem q873 : (Jvm.Cond.static ({ cls := "java/util/Arrays", name := "copyOf", desc := "([Ljava/lang/Object;I)[Ljava/lang/Object;" } : Jvm.MethodName)) ∈ lw_all := lw_g (lw_at lw_m4 11 rfl) rfl
theorem q874 : (Jvm.Cond.code ({ cls := "java/util/Arrays", name := "copyOf", desc := "([Ljava/lang/Object;I)[Ljava/lang/Object;" } : Jvm.MethodName) prog_37_method_119_code (2 : Nat) (Option.some (Jvm.ClassFile.FieldType.array (Jvm.ClassFile.FieldType.object "java/lang/Object")))) ∈ lw_all := lw_g (lw_at lw_m4 12 rfl) rfl
theorem q875 : (Jvm.Cond.methodLink "java/util/Arrays" (86 : Nat) ({ cls := "java/lang/Object", name := "getClass", desc := "()Ljava/lang/Class;" } : Jvm.MethodName)) ∈ lw_all := lw_g (lw_at lw_m4 13 rfl) rfl
theorem q895 : (Jvm.Cond.methodLink "java/util/Arrays" (300 : Nat) ({ cls := "java/util/Arrays", name := "copyOf", desc := "([Ljava/lang/Object;ILjava/lang/Class;)[Ljava/lang/Object;" } : Jvm.MethodName)) ∈ lw_all := lw_g (lw_at lw_m4 33 rfl) rfl
theorem q896 : (Jvm.Cond.static ({ cls := "java/util/Arrays", name := "copyOf", desc := "([Ljava/lang/Object;ILjava/lang/Class;)[Ljava/lang/Object;" } : Jvm.MethodName)) ∈ lw_all := lw_g (lw_at lw_m4 34 rfl) rfl
theorem q897 : (Jvm.Cond.code ({ cls := "java/util/Arrays", name := "copyOf", desc := "([Ljava/lang/Object;ILjava/lang/Class;)[Ljava/lang/Object;" } : Jvm.MethodName) prog_37_method_120_code (4 : Nat) (Option.some (Jvm.ClassFile.FieldType.array (Jvm.ClassFile.FieldType.object "java/lang/Object")))) ∈ lw_all := lw_g (lw_at lw_m4 35 rfl) rfl
theorem q898 : (Jvm.Cond.classLink "java/util/Arrays" (110 : Nat) "[Ljava/lang/Object;") ∈ lw_all := lw_g (lw_at lw_m4 36 rfl) rfl
theorem q900 : (Jvm.Cond.classLink "java/util/Arrays" (2 : Nat) "java/lang/Object") ∈ lw_all := lw_g (lw_at lw_m4 38 rfl) rfl
theorem q901 : (Jvm.Cond.methodLink "java/util/Arrays" (304 : Nat) ({ cls := "java/lang/Math", name := "min", desc := "(II)I" } : Jvm.MethodName)) ∈ lw_all := lw_g (lw_at lw_m4 39 rfl) rfl
theorem q904 : (Jvm.Cond.methodLink "java/util/Arrays" (150 : Nat) ({ cls := "java/lang/System", name := "arraycopy", desc := "(Ljava/lang/Object;ILjava/lang/Object;II)V" } : Jvm.MethodName)) ∈ lw_all := lw_g (lw_at lw_m4 42 rfl) rfl
/-! java/lang/Object -/
set_option maxRecDepth 100000
def RJ14 : String := "java/lang/Object"
abbrev cJ14_init : ByteArray := object_method_1_code
def yJ14_init : MethodName := ⟨RJ14, "<init>", "()V"⟩
theorem dJ14_init_0 : decode cJ14_init 0 = .ok (.return_, 1) := by decide +kernel
theorem q180 : (Jvm.Cond.instanceMethod ({ cls := "java/lang/Object", name := "<init>", desc := "()V" } : Jvm.MethodName)) ∈ lw_all := lw_g (lw_at lw_m1 38 rfl) rfl
theorem q181 : (Jvm.Cond.code ({ cls := "java/lang/Object", name := "<init>", desc := "()V" } : Jvm.MethodName) object_method_1_code (1 : Nat) (Option.none : Option Jvm.ClassFile.FieldType)) ∈ lw_all := lw_g (lw_at lw_m1 39 rfl) rfl
theorem q876 : (Jvm.Cond.instanceMethod ({ cls := "java/lang/Object", name := "getClass", desc := "()Ljava/lang/Class;" } : Jvm.MethodName)) ∈ lw_all := lw_g (lw_at lw_m4 14 rfl) rfl
theorem q877 : (Jvm.Cond.sameMethod "java/lang/Object" "java/lang/Object" "getClass" "()Ljava/lang/Class;") ∈ lw_all := lw_g (lw_at lw_m4 15 rfl) rfl
theorem q894 : (Jvm.Cond.native ({ cls := "java/lang/Object", name := "getClass", desc := "()Ljava/lang/Class;" } : Jvm.MethodName)) ∈ lw_all := lw_g (lw_at lw_m4 32 rfl) rfl
theorem q2073 : (Jvm.Cond.initialized "java/lang/Object") ∈ lw_all := lw_g (lw_at lw_m9 11 rfl) rfl
theorem q2094 : (Jvm.Cond.declares ({ cls := "java/lang/Object", name := "getClass", desc := "()Ljava/lang/Class;" } : Jvm.MethodName)) ∈ lw_tbl := lw_at lw_m9 32 rfl
/-! KindPostman$Walk -/
set_option maxRecDepth 100000
def RX1 : String := "KindPostman$Walk"
def TX1 : u_T := fun k => match k with
  | 0 => ("KindPostman$Walk", "door", "[LKindPostman$Door;", true)
  | 1 => ("KindPostman$Walk", "bag", "LKindPostman$Bag;", true)
  | 2 => ("KindPostman$Walk", "given", "[I", true)
  | 3 => ("KindPostman$Walk", "has", "[I", true)
  | 4 => ("KindPostman$Walk", "book", "[[I", true)
  | 5 => ("KindPostman$Walk", "blows", "LKindPostman$Rows;", true)
  | 6 => ("KindPostman$Walk", "owed", "LKindPostman$Rows;", true)
  | 7 => ("KindPostman$Walk", "word", "LKindPostman$Rows;", true)
  | 8 => ("KindPostman$Walk", "answers", "LKindPostman$Rows;", true)
  | 9 => ("KindPostman$Walk", "faces", "LKindPostman$Rows;", true)
  | 10 => ("KindPostman$Walk", "law", "Ljava/util/ArrayList;", false)
  | 11 => ("KindPostman$Walk", "post", "Ljava/util/ArrayList;", false)
  | 12 => ("KindPostman$Walk", "round", "[I", false)
  | 13 => ("KindPostman$Walk", "street", "[I", false)
  | 14 => ("KindPostman$Walk", "doors", "I", false)
  | 15 => ("KindPostman$Walk", "health", "I", false)
  | 16 => ("KindPostman$Walk", "hunger", "I", false)
  | 17 => ("KindPostman$Walk", "sat", "I", false)
  | 18 => ("KindPostman$Walk", "lost", "I", false)
  | 19 => ("KindPostman$Walk", "hour", "I", false)
  | 20 => ("KindPostman$Walk", "rain", "I", false)
  | 21 => ("KindPostman$Walk", "day", "I", false)
  | 22 => ("KindPostman$Walk", "numbers", "I", false)
  | 23 => ("KindPostman$Walk", "state", "I", false)
  | 24 => ("KindPostman$Walk", "lines", "I", false)
  | 25 => ("KindPostman$Walk", "rounds", "I", false)
  | 26 => ("KindPostman$Walk", "streets", "I", false)
  | 27 => ("KindPostman$Walk", "isThought", "Z", false)
  | _ => ("KindPostman$Walk", "asked", "LKindPostman$Letter;", false)
def tyX1 : Nat → FieldType := fun k => match k with
  | 0 => .array (.object "KindPostman$Door")
  | 1 => .object "KindPostman$Bag"
  | 2 => .array .int
  | 3 => .array .int
  | 4 => .array (.array .int)
  | 5 => .object "KindPostman$Rows"
  | 6 => .object "KindPostman$Rows"
  | 7 => .object "KindPostman$Rows"
  | 8 => .object "KindPostman$Rows"
  | 9 => .object "KindPostman$Rows"
  | 10 => .object "java/util/ArrayList"
  | 11 => .object "java/util/ArrayList"
  | 12 => .array .int
  | 13 => .array .int
  | 14 => .int
  | 15 => .int
  | 16 => .int
  | 17 => .int
  | 18 => .int
  | 19 => .int
  | 20 => .int
  | 21 => .int
  | 22 => .int
  | 23 => .int
  | 24 => .int
  | 25 => .int
  | 26 => .int
  | 27 => .boolean
  | _ => .object "KindPostman$Letter"
abbrev wsX10 : List Cond := u_ws RX1 TX1 29
set_option maxRecDepth 100000 in
theorem nmX1 : ∀ a, a < 29 → ∀ b, b < 29 → a ≠ b → (TX1 a).2.1 ≠ (TX1 b).2.1 := by decide +kernel
set_option maxRecDepth 100000 in
theorem tyX1_ok : ∀ k, k < 29 → parseFieldDescriptor (TX1 k).2.2.1 = some (tyX1 k) := by decide +kernel
abbrev cX1_init : ByteArray := prog_16_method_1_code
def yX1_init : MethodName := ⟨RX1, "<init>", "()V"⟩
def dkwX1_init_9 : List UInt8 := [132, 1, 1, 167, 255, 237, 177]
abbrev dktX1_init_9 : List UInt8 := dkwX1_init_9 ++ []
def dkwX1_init_8 : List UInt8 := [132, 1, 1, 167, 255, 234, 3, 60, 27, 42, 180, 0, 70, 190, 162, 0, 16, 42, 180, 0, 70, 27, 2, 79]
abbrev dktX1_init_8 : List UInt8 := dkwX1_init_8 ++ dktX1_init_9
def dkwX1_init_7 : List UInt8 := [181, 0, 73, 3, 60, 27, 16, 12, 162, 0, 22, 42, 180, 0, 11, 27, 187, 0, 9, 89, 183, 0, 77, 83]
abbrev dktX1_init_7 : List UInt8 := dkwX1_init_7 ++ dktX1_init_8
def dkwX1_init_6 : List UInt8 := [181, 0, 64, 42, 16, 16, 188, 10, 181, 0, 67, 42, 17, 0, 144, 188, 10, 181, 0, 70, 42, 16, 99]
abbrev dktX1_init_6 : List UInt8 := dkwX1_init_6 ++ dktX1_init_7
def dkwX1_init_5 : List UInt8 := [181, 0, 54, 42, 187, 0, 57, 89, 183, 0, 59, 181, 0, 60, 42, 187, 0, 57, 89, 183, 0, 59]
abbrev dktX1_init_5 : List UInt8 := dkwX1_init_5 ++ dktX1_init_6
def dkwX1_init_4 : List UInt8 := [187, 0, 36, 89, 16, 12, 183, 0, 38, 181, 0, 51, 42, 187, 0, 36, 89, 16, 8, 183, 0, 38]
abbrev dktX1_init_4 : List UInt8 := dkwX1_init_4 ++ dktX1_init_5
def dkwX1_init_3 : List UInt8 := [89, 16, 16, 183, 0, 38, 181, 0, 45, 42, 187, 0, 36, 89, 16, 8, 183, 0, 38, 181, 0, 48, 42]
abbrev dktX1_init_3 : List UInt8 := dkwX1_init_3 ++ dktX1_init_4
def dkwX1_init_2 : List UInt8 := [197, 0, 31, 2, 181, 0, 33, 42, 187, 0, 36, 89, 16, 8, 183, 0, 38, 181, 0, 41, 42, 187, 0, 36]
abbrev dktX1_init_2 : List UInt8 := dkwX1_init_2 ++ dktX1_init_3
def dkwX1_init_1 : List UInt8 := [42, 16, 7, 188, 10, 181, 0, 24, 42, 16, 26, 188, 10, 181, 0, 28, 42, 17, 0, 150, 7]
abbrev dktX1_init_1 : List UInt8 := dkwX1_init_1 ++ dktX1_init_2
def dkwX1_init_0 : List UInt8 := [42, 183, 0, 3, 42, 16, 12, 189, 0, 9, 181, 0, 11, 42, 187, 0, 17, 89, 183, 0, 19, 181, 0, 20]
abbrev dktX1_init_0 : List UInt8 := dkwX1_init_0 ++ dktX1_init_1
theorem dksX1_init_0 : cX1_init.data.toList.drop 0 = dktX1_init_0 := by decide +kernel
theorem dksX1_init_1 : cX1_init.data.toList.drop 24 = dktX1_init_1 := dk_seg dksX1_init_0 24 rfl rfl
theorem dksX1_init_2 : cX1_init.data.toList.drop 45 = dktX1_init_2 := dk_seg dksX1_init_1 21 rfl rfl
theorem dksX1_init_3 : cX1_init.data.toList.drop 69 = dktX1_init_3 := dk_seg dksX1_init_2 24 rfl rfl
theorem dksX1_init_4 : cX1_init.data.toList.drop 92 = dktX1_init_4 := dk_seg dksX1_init_3 23 rfl rfl
theorem dksX1_init_5 : cX1_init.data.toList.drop 114 = dktX1_init_5 := dk_seg dksX1_init_4 22 rfl rfl
theorem dksX1_init_6 : cX1_init.data.toList.drop 136 = dktX1_init_6 := dk_seg dksX1_init_5 22 rfl rfl
theorem dksX1_init_7 : cX1_init.data.toList.drop 159 = dktX1_init_7 := dk_seg dksX1_init_6 23 rfl rfl
theorem dksX1_init_8 : cX1_init.data.toList.drop 183 = dktX1_init_8 := dk_seg dksX1_init_7 24 rfl rfl
theorem dksX1_init_9 : cX1_init.data.toList.drop 207 = dktX1_init_9 := dk_seg dksX1_init_8 24 rfl rfl
theorem dX1_init_0 : decode cX1_init 0 = .ok (.aload_n 0, 1) := dk_42 (dk_at dksX1_init_0 0 rfl rfl)
theorem dX1_init_1 : decode cX1_init 1 = .ok (.invokespecial 3, 3) := dk_183 0 3 (dk_at dksX1_init_0 1 rfl rfl)
theorem dX1_init_4 : decode cX1_init 4 = .ok (.aload_n 0, 1) := dk_42 (dk_at dksX1_init_0 4 rfl rfl)
theorem dX1_init_5 : decode cX1_init 5 = .ok (.bipush 12, 2) := dk_16 12 (dk_at dksX1_init_0 5 rfl rfl)
theorem dX1_init_7 : decode cX1_init 7 = .ok (.anewarray 9, 3) := dk_189 0 9 (dk_at dksX1_init_0 7 rfl rfl)
theorem dX1_init_10 : decode cX1_init 10 = .ok (.putfield 11, 3) := dk_181 0 11 (dk_at dksX1_init_0 10 rfl rfl)
theorem dX1_init_13 : decode cX1_init 13 = .ok (.aload_n 0, 1) := dk_42 (dk_at dksX1_init_0 13 rfl rfl)
theorem dX1_init_14 : decode cX1_init 14 = .ok (.new 17, 3) := dk_187 0 17 (dk_at dksX1_init_0 14 rfl rfl)
theorem dX1_init_17 : decode cX1_init 17 = .ok (.dup, 1) := dk_89 (dk_at dksX1_init_0 17 rfl rfl)
theorem dX1_init_18 : decode cX1_init 18 = .ok (.invokespecial 19, 3) := dk_183 0 19 (dk_at dksX1_init_0 18 rfl rfl)
theorem dX1_init_21 : decode cX1_init 21 = .ok (.putfield 20, 3) := dk_181 0 20 (dk_at dksX1_init_0 21 rfl rfl)
theorem dX1_init_24 : decode cX1_init 24 = .ok (.aload_n 0, 1) := dk_42 (dk_at dksX1_init_1 0 rfl rfl)
theorem dX1_init_25 : decode cX1_init 25 = .ok (.bipush 7, 2) := dk_16 7 (dk_at dksX1_init_1 1 rfl rfl)
theorem dX1_init_27 : decode cX1_init 27 = .ok (.newarray .int, 2) := dk_188_10 (dk_at dksX1_init_1 3 rfl rfl)
theorem dX1_init_29 : decode cX1_init 29 = .ok (.putfield 24, 3) := dk_181 0 24 (dk_at dksX1_init_1 5 rfl rfl)
theorem dX1_init_32 : decode cX1_init 32 = .ok (.aload_n 0, 1) := dk_42 (dk_at dksX1_init_1 8 rfl rfl)
theorem dX1_init_33 : decode cX1_init 33 = .ok (.bipush 26, 2) := dk_16 26 (dk_at dksX1_init_1 9 rfl rfl)
theorem dX1_init_35 : decode cX1_init 35 = .ok (.newarray .int, 2) := dk_188_10 (dk_at dksX1_init_1 11 rfl rfl)
theorem dX1_init_37 : decode cX1_init 37 = .ok (.putfield 28, 3) := dk_181 0 28 (dk_at dksX1_init_1 13 rfl rfl)
theorem dX1_init_40 : decode cX1_init 40 = .ok (.aload_n 0, 1) := dk_42 (dk_at dksX1_init_1 16 rfl rfl)
theorem dX1_init_41 : decode cX1_init 41 = .ok (.sipush 150, 3) := dk_17 0 150 (dk_at dksX1_init_1 17 rfl rfl)
theorem dX1_init_44 : decode cX1_init 44 = .ok (.iconst 4, 1) := dk_7 (dk_at dksX1_init_1 20 rfl rfl)
theorem dX1_init_45 : decode cX1_init 45 = .ok (.multianewarray 31 2, 4) := by decide +kernel
theorem dX1_init_49 : decode cX1_init 49 = .ok (.putfield 33, 3) := dk_181 0 33 (dk_at dksX1_init_2 4 rfl rfl)
theorem dX1_init_52 : decode cX1_init 52 = .ok (.aload_n 0, 1) := dk_42 (dk_at dksX1_init_2 7 rfl rfl)
theorem dX1_init_53 : decode cX1_init 53 = .ok (.new 36, 3) := dk_187 0 36 (dk_at dksX1_init_2 8 rfl rfl)
theorem dX1_init_56 : decode cX1_init 56 = .ok (.dup, 1) := dk_89 (dk_at dksX1_init_2 11 rfl rfl)
theorem dX1_init_57 : decode cX1_init 57 = .ok (.bipush 8, 2) := dk_16 8 (dk_at dksX1_init_2 12 rfl rfl)
theorem dX1_init_59 : decode cX1_init 59 = .ok (.invokespecial 38, 3) := dk_183 0 38 (dk_at dksX1_init_2 14 rfl rfl)
theorem dX1_init_62 : decode cX1_init 62 = .ok (.putfield 41, 3) := dk_181 0 41 (dk_at dksX1_init_2 17 rfl rfl)
theorem dX1_init_65 : decode cX1_init 65 = .ok (.aload_n 0, 1) := dk_42 (dk_at dksX1_init_2 20 rfl rfl)
theorem dX1_init_66 : decode cX1_init 66 = .ok (.new 36, 3) := dk_187 0 36 (dk_at dksX1_init_2 21 rfl rfl)
theorem dX1_init_69 : decode cX1_init 69 = .ok (.dup, 1) := dk_89 (dk_at dksX1_init_3 0 rfl rfl)
theorem dX1_init_70 : decode cX1_init 70 = .ok (.bipush 16, 2) := dk_16 16 (dk_at dksX1_init_3 1 rfl rfl)
theorem dX1_init_72 : decode cX1_init 72 = .ok (.invokespecial 38, 3) := dk_183 0 38 (dk_at dksX1_init_3 3 rfl rfl)
theorem dX1_init_75 : decode cX1_init 75 = .ok (.putfield 45, 3) := dk_181 0 45 (dk_at dksX1_init_3 6 rfl rfl)
theorem dX1_init_78 : decode cX1_init 78 = .ok (.aload_n 0, 1) := dk_42 (dk_at dksX1_init_3 9 rfl rfl)
theorem dX1_init_79 : decode cX1_init 79 = .ok (.new 36, 3) := dk_187 0 36 (dk_at dksX1_init_3 10 rfl rfl)
theorem dX1_init_82 : decode cX1_init 82 = .ok (.dup, 1) := dk_89 (dk_at dksX1_init_3 13 rfl rfl)
theorem dX1_init_83 : decode cX1_init 83 = .ok (.bipush 8, 2) := dk_16 8 (dk_at dksX1_init_3 14 rfl rfl)
theorem dX1_init_85 : decode cX1_init 85 = .ok (.invokespecial 38, 3) := dk_183 0 38 (dk_at dksX1_init_3 16 rfl rfl)
theorem dX1_init_88 : decode cX1_init 88 = .ok (.putfield 48, 3) := dk_181 0 48 (dk_at dksX1_init_3 19 rfl rfl)
theorem dX1_init_91 : decode cX1_init 91 = .ok (.aload_n 0, 1) := dk_42 (dk_at dksX1_init_3 22 rfl rfl)
theorem dX1_init_92 : decode cX1_init 92 = .ok (.new 36, 3) := dk_187 0 36 (dk_at dksX1_init_4 0 rfl rfl)
theorem dX1_init_95 : decode cX1_init 95 = .ok (.dup, 1) := dk_89 (dk_at dksX1_init_4 3 rfl rfl)
theorem dX1_init_96 : decode cX1_init 96 = .ok (.bipush 12, 2) := dk_16 12 (dk_at dksX1_init_4 4 rfl rfl)
theorem dX1_init_98 : decode cX1_init 98 = .ok (.invokespecial 38, 3) := dk_183 0 38 (dk_at dksX1_init_4 6 rfl rfl)
theorem dX1_init_101 : decode cX1_init 101 = .ok (.putfield 51, 3) := dk_181 0 51 (dk_at dksX1_init_4 9 rfl rfl)
theorem dX1_init_104 : decode cX1_init 104 = .ok (.aload_n 0, 1) := dk_42 (dk_at dksX1_init_4 12 rfl rfl)
theorem dX1_init_105 : decode cX1_init 105 = .ok (.new 36, 3) := dk_187 0 36 (dk_at dksX1_init_4 13 rfl rfl)
theorem dX1_init_108 : decode cX1_init 108 = .ok (.dup, 1) := dk_89 (dk_at dksX1_init_4 16 rfl rfl)
theorem dX1_init_109 : decode cX1_init 109 = .ok (.bipush 8, 2) := dk_16 8 (dk_at dksX1_init_4 17 rfl rfl)
theorem dX1_init_111 : decode cX1_init 111 = .ok (.invokespecial 38, 3) := dk_183 0 38 (dk_at dksX1_init_4 19 rfl rfl)
theorem dX1_init_114 : decode cX1_init 114 = .ok (.putfield 54, 3) := dk_181 0 54 (dk_at dksX1_init_5 0 rfl rfl)
theorem dX1_init_117 : decode cX1_init 117 = .ok (.aload_n 0, 1) := dk_42 (dk_at dksX1_init_5 3 rfl rfl)
theorem dX1_init_118 : decode cX1_init 118 = .ok (.new 57, 3) := dk_187 0 57 (dk_at dksX1_init_5 4 rfl rfl)
theorem dX1_init_121 : decode cX1_init 121 = .ok (.dup, 1) := dk_89 (dk_at dksX1_init_5 7 rfl rfl)
theorem dX1_init_122 : decode cX1_init 122 = .ok (.invokespecial 59, 3) := dk_183 0 59 (dk_at dksX1_init_5 8 rfl rfl)
theorem dX1_init_125 : decode cX1_init 125 = .ok (.putfield 60, 3) := dk_181 0 60 (dk_at dksX1_init_5 11 rfl rfl)
theorem dX1_init_128 : decode cX1_init 128 = .ok (.aload_n 0, 1) := dk_42 (dk_at dksX1_init_5 14 rfl rfl)
theorem dX1_init_129 : decode cX1_init 129 = .ok (.new 57, 3) := dk_187 0 57 (dk_at dksX1_init_5 15 rfl rfl)
theorem dX1_init_132 : decode cX1_init 132 = .ok (.dup, 1) := dk_89 (dk_at dksX1_init_5 18 rfl rfl)
theorem dX1_init_133 : decode cX1_init 133 = .ok (.invokespecial 59, 3) := dk_183 0 59 (dk_at dksX1_init_5 19 rfl rfl)
theorem dX1_init_136 : decode cX1_init 136 = .ok (.putfield 64, 3) := dk_181 0 64 (dk_at dksX1_init_6 0 rfl rfl)
theorem dX1_init_139 : decode cX1_init 139 = .ok (.aload_n 0, 1) := dk_42 (dk_at dksX1_init_6 3 rfl rfl)
theorem dX1_init_140 : decode cX1_init 140 = .ok (.bipush 16, 2) := dk_16 16 (dk_at dksX1_init_6 4 rfl rfl)
theorem dX1_init_142 : decode cX1_init 142 = .ok (.newarray .int, 2) := dk_188_10 (dk_at dksX1_init_6 6 rfl rfl)
theorem dX1_init_144 : decode cX1_init 144 = .ok (.putfield 67, 3) := dk_181 0 67 (dk_at dksX1_init_6 8 rfl rfl)
theorem dX1_init_147 : decode cX1_init 147 = .ok (.aload_n 0, 1) := dk_42 (dk_at dksX1_init_6 11 rfl rfl)
theorem dX1_init_148 : decode cX1_init 148 = .ok (.sipush 144, 3) := dk_17 0 144 (dk_at dksX1_init_6 12 rfl rfl)
theorem dX1_init_151 : decode cX1_init 151 = .ok (.newarray .int, 2) := dk_188_10 (dk_at dksX1_init_6 15 rfl rfl)
theorem dX1_init_153 : decode cX1_init 153 = .ok (.putfield 70, 3) := dk_181 0 70 (dk_at dksX1_init_6 17 rfl rfl)
theorem dX1_init_156 : decode cX1_init 156 = .ok (.aload_n 0, 1) := dk_42 (dk_at dksX1_init_6 20 rfl rfl)
theorem dX1_init_157 : decode cX1_init 157 = .ok (.bipush 99, 2) := dk_16 99 (dk_at dksX1_init_6 21 rfl rfl)
theorem dX1_init_159 : decode cX1_init 159 = .ok (.putfield 73, 3) := dk_181 0 73 (dk_at dksX1_init_7 0 rfl rfl)
theorem dX1_init_162 : decode cX1_init 162 = .ok (.iconst 0, 1) := dk_3 (dk_at dksX1_init_7 3 rfl rfl)
theorem dX1_init_163 : decode cX1_init 163 = .ok (.istore_n 1, 1) := dk_60 (dk_at dksX1_init_7 4 rfl rfl)
theorem dX1_init_164 : decode cX1_init 164 = .ok (.iload_n 1, 1) := dk_27 (dk_at dksX1_init_7 5 rfl rfl)
theorem dX1_init_165 : decode cX1_init 165 = .ok (.bipush 12, 2) := dk_16 12 (dk_at dksX1_init_7 6 rfl rfl)
theorem dX1_init_167 : decode cX1_init 167 = .ok (.if_icmp .ge 22, 3) := dk_162 0 22 (dk_at dksX1_init_7 8 rfl rfl)
theorem dX1_init_170 : decode cX1_init 170 = .ok (.aload_n 0, 1) := dk_42 (dk_at dksX1_init_7 11 rfl rfl)
theorem dX1_init_171 : decode cX1_init 171 = .ok (.getfield 11, 3) := dk_180 0 11 (dk_at dksX1_init_7 12 rfl rfl)
theorem dX1_init_174 : decode cX1_init 174 = .ok (.iload_n 1, 1) := dk_27 (dk_at dksX1_init_7 15 rfl rfl)
theorem dX1_init_175 : decode cX1_init 175 = .ok (.new 9, 3) := dk_187 0 9 (dk_at dksX1_init_7 16 rfl rfl)
theorem dX1_init_178 : decode cX1_init 178 = .ok (.dup, 1) := dk_89 (dk_at dksX1_init_7 19 rfl rfl)
theorem dX1_init_179 : decode cX1_init 179 = .ok (.invokespecial 77, 3) := dk_183 0 77 (dk_at dksX1_init_7 20 rfl rfl)
theorem dX1_init_182 : decode cX1_init 182 = .ok (.aastore, 1) := dk_83 (dk_at dksX1_init_7 23 rfl rfl)
theorem dX1_init_183 : decode cX1_init 183 = .ok (.iinc 1 1, 3) := dk_132 1 1 (dk_at dksX1_init_8 0 rfl rfl)
theorem dX1_init_186 : decode cX1_init 186 = .ok (.goto (-22), 3) := dk_167 255 234 (dk_at dksX1_init_8 3 rfl rfl)
theorem dX1_init_189 : decode cX1_init 189 = .ok (.iconst 0, 1) := dk_3 (dk_at dksX1_init_8 6 rfl rfl)
theorem dX1_init_190 : decode cX1_init 190 = .ok (.istore_n 1, 1) := dk_60 (dk_at dksX1_init_8 7 rfl rfl)
theorem dX1_init_191 : decode cX1_init 191 = .ok (.iload_n 1, 1) := dk_27 (dk_at dksX1_init_8 8 rfl rfl)
theorem dX1_init_192 : decode cX1_init 192 = .ok (.aload_n 0, 1) := dk_42 (dk_at dksX1_init_8 9 rfl rfl)
theorem dX1_init_193 : decode cX1_init 193 = .ok (.getfield 70, 3) := dk_180 0 70 (dk_at dksX1_init_8 10 rfl rfl)
theorem dX1_init_196 : decode cX1_init 196 = .ok (.arraylength, 1) := dk_190 (dk_at dksX1_init_8 13 rfl rfl)
theorem dX1_init_197 : decode cX1_init 197 = .ok (.if_icmp .ge 16, 3) := dk_162 0 16 (dk_at dksX1_init_8 14 rfl rfl)
theorem dX1_init_200 : decode cX1_init 200 = .ok (.aload_n 0, 1) := dk_42 (dk_at dksX1_init_8 17 rfl rfl)
theorem dX1_init_201 : decode cX1_init 201 = .ok (.getfield 70, 3) := dk_180 0 70 (dk_at dksX1_init_8 18 rfl rfl)
theorem dX1_init_204 : decode cX1_init 204 = .ok (.iload_n 1, 1) := dk_27 (dk_at dksX1_init_8 21 rfl rfl)
theorem dX1_init_205 : decode cX1_init 205 = .ok (.iconst (-1), 1) := dk_2 (dk_at dksX1_init_8 22 rfl rfl)
theorem dX1_init_206 : decode cX1_init 206 = .ok (.iastore, 1) := dk_79 (dk_at dksX1_init_8 23 rfl rfl)
theorem dX1_init_207 : decode cX1_init 207 = .ok (.iinc 1 1, 3) := dk_132 1 1 (dk_at dksX1_init_9 0 rfl rfl)
theorem dX1_init_210 : decode cX1_init 210 = .ok (.goto (-19), 3) := dk_167 255 237 (dk_at dksX1_init_9 3 rfl rfl)
theorem dX1_init_213 : decode cX1_init 213 = .ok (.return_, 1) := dk_177 (dk_at dksX1_init_9 6 rfl rfl)
abbrev cX1_moves : ByteArray := prog_16_method_2_code
def yX1_moves : MethodName := ⟨RX1, "moves", "(LKindPostman$Walk;)V"⟩
def dkwX1_moves_6 : List UInt8 := [181, 0, 109, 177]
abbrev dktX1_moves_6 : List UInt8 := dkwX1_moves_6 ++ []
def dkwX1_moves_5 : List UInt8 := [181, 0, 100, 42, 43, 180, 0, 103, 181, 0, 103, 42, 43, 180, 0, 106, 181, 0, 106, 42, 43, 180, 0, 109]
abbrev dktX1_moves_5 : List UInt8 := dkwX1_moves_5 ++ dktX1_moves_6
def dkwX1_moves_4 : List UInt8 := [181, 0, 91, 42, 43, 180, 0, 94, 181, 0, 94, 42, 43, 180, 0, 97, 181, 0, 97, 42, 43, 180, 0, 100]
abbrev dktX1_moves_4 : List UInt8 := dkwX1_moves_4 ++ dktX1_moves_5
def dkwX1_moves_3 : List UInt8 := [181, 0, 73, 42, 43, 180, 0, 85, 181, 0, 85, 42, 43, 180, 0, 88, 181, 0, 88, 42, 43, 180, 0, 91]
abbrev dktX1_moves_3 : List UInt8 := dkwX1_moves_3 ++ dktX1_moves_4
def dkwX1_moves_2 : List UInt8 := [46, 79, 132, 2, 1, 167, 255, 235, 42, 180, 0, 20, 43, 180, 0, 20, 182, 0, 82, 42, 43, 180, 0, 73]
abbrev dktX1_moves_2 : List UInt8 := dkwX1_moves_2 ++ dktX1_moves_3
def dkwX1_moves_1 : List UInt8 := [132, 2, 1, 167, 255, 232, 3, 61, 28, 16, 7, 162, 0, 21, 42, 180, 0, 24, 28, 43, 180, 0, 24, 28]
abbrev dktX1_moves_1 : List UInt8 := dkwX1_moves_1 ++ dktX1_moves_2
def dkwX1_moves_0 : List UInt8 := [3, 61, 28, 16, 12, 162, 0, 24, 42, 180, 0, 11, 28, 50, 43, 180, 0, 11, 28, 50, 182, 0, 78]
abbrev dktX1_moves_0 : List UInt8 := dkwX1_moves_0 ++ dktX1_moves_1
theorem dksX1_moves_0 : cX1_moves.data.toList.drop 0 = dktX1_moves_0 := by decide +kernel
theorem dksX1_moves_1 : cX1_moves.data.toList.drop 23 = dktX1_moves_1 := dk_seg dksX1_moves_0 23 rfl rfl
theorem dksX1_moves_2 : cX1_moves.data.toList.drop 47 = dktX1_moves_2 := dk_seg dksX1_moves_1 24 rfl rfl
theorem dksX1_moves_3 : cX1_moves.data.toList.drop 71 = dktX1_moves_3 := dk_seg dksX1_moves_2 24 rfl rfl
theorem dksX1_moves_4 : cX1_moves.data.toList.drop 95 = dktX1_moves_4 := dk_seg dksX1_moves_3 24 rfl rfl
theorem dksX1_moves_5 : cX1_moves.data.toList.drop 119 = dktX1_moves_5 := dk_seg dksX1_moves_4 24 rfl rfl
theorem dksX1_moves_6 : cX1_moves.data.toList.drop 143 = dktX1_moves_6 := dk_seg dksX1_moves_5 24 rfl rfl
theorem dX1_moves_0 : decode cX1_moves 0 = .ok (.iconst 0, 1) := dk_3 (dk_at dksX1_moves_0 0 rfl rfl)
theorem dX1_moves_1 : decode cX1_moves 1 = .ok (.istore_n 2, 1) := dk_61 (dk_at dksX1_moves_0 1 rfl rfl)
theorem dX1_moves_2 : decode cX1_moves 2 = .ok (.iload_n 2, 1) := dk_28 (dk_at dksX1_moves_0 2 rfl rfl)
theorem dX1_moves_3 : decode cX1_moves 3 = .ok (.bipush 12, 2) := dk_16 12 (dk_at dksX1_moves_0 3 rfl rfl)
theorem dX1_moves_5 : decode cX1_moves 5 = .ok (.if_icmp .ge 24, 3) := dk_162 0 24 (dk_at dksX1_moves_0 5 rfl rfl)
theorem dX1_moves_8 : decode cX1_moves 8 = .ok (.aload_n 0, 1) := dk_42 (dk_at dksX1_moves_0 8 rfl rfl)
theorem dX1_moves_9 : decode cX1_moves 9 = .ok (.getfield 11, 3) := dk_180 0 11 (dk_at dksX1_moves_0 9 rfl rfl)
theorem dX1_moves_12 : decode cX1_moves 12 = .ok (.iload_n 2, 1) := dk_28 (dk_at dksX1_moves_0 12 rfl rfl)
theorem dX1_moves_13 : decode cX1_moves 13 = .ok (.aaload, 1) := dk_50 (dk_at dksX1_moves_0 13 rfl rfl)
theorem dX1_moves_14 : decode cX1_moves 14 = .ok (.aload_n 1, 1) := dk_43 (dk_at dksX1_moves_0 14 rfl rfl)
theorem dX1_moves_15 : decode cX1_moves 15 = .ok (.getfield 11, 3) := dk_180 0 11 (dk_at dksX1_moves_0 15 rfl rfl)
theorem dX1_moves_18 : decode cX1_moves 18 = .ok (.iload_n 2, 1) := dk_28 (dk_at dksX1_moves_0 18 rfl rfl)
theorem dX1_moves_19 : decode cX1_moves 19 = .ok (.aaload, 1) := dk_50 (dk_at dksX1_moves_0 19 rfl rfl)
theorem dX1_moves_20 : decode cX1_moves 20 = .ok (.invokevirtual 78, 3) := dk_182 0 78 (dk_at dksX1_moves_0 20 rfl rfl)
theorem dX1_moves_23 : decode cX1_moves 23 = .ok (.iinc 2 1, 3) := dk_132 2 1 (dk_at dksX1_moves_1 0 rfl rfl)
theorem dX1_moves_26 : decode cX1_moves 26 = .ok (.goto (-24), 3) := dk_167 255 232 (dk_at dksX1_moves_1 3 rfl rfl)
theorem dX1_moves_29 : decode cX1_moves 29 = .ok (.iconst 0, 1) := dk_3 (dk_at dksX1_moves_1 6 rfl rfl)
theorem dX1_moves_30 : decode cX1_moves 30 = .ok (.istore_n 2, 1) := dk_61 (dk_at dksX1_moves_1 7 rfl rfl)
theorem dX1_moves_31 : decode cX1_moves 31 = .ok (.iload_n 2, 1) := dk_28 (dk_at dksX1_moves_1 8 rfl rfl)
theorem dX1_moves_32 : decode cX1_moves 32 = .ok (.bipush 7, 2) := dk_16 7 (dk_at dksX1_moves_1 9 rfl rfl)
theorem dX1_moves_34 : decode cX1_moves 34 = .ok (.if_icmp .ge 21, 3) := dk_162 0 21 (dk_at dksX1_moves_1 11 rfl rfl)
theorem dX1_moves_37 : decode cX1_moves 37 = .ok (.aload_n 0, 1) := dk_42 (dk_at dksX1_moves_1 14 rfl rfl)
theorem dX1_moves_38 : decode cX1_moves 38 = .ok (.getfield 24, 3) := dk_180 0 24 (dk_at dksX1_moves_1 15 rfl rfl)
theorem dX1_moves_41 : decode cX1_moves 41 = .ok (.iload_n 2, 1) := dk_28 (dk_at dksX1_moves_1 18 rfl rfl)
theorem dX1_moves_42 : decode cX1_moves 42 = .ok (.aload_n 1, 1) := dk_43 (dk_at dksX1_moves_1 19 rfl rfl)
theorem dX1_moves_43 : decode cX1_moves 43 = .ok (.getfield 24, 3) := dk_180 0 24 (dk_at dksX1_moves_1 20 rfl rfl)
theorem dX1_moves_46 : decode cX1_moves 46 = .ok (.iload_n 2, 1) := dk_28 (dk_at dksX1_moves_1 23 rfl rfl)
theorem dX1_moves_47 : decode cX1_moves 47 = .ok (.iaload, 1) := dk_46 (dk_at dksX1_moves_2 0 rfl rfl)
theorem dX1_moves_48 : decode cX1_moves 48 = .ok (.iastore, 1) := dk_79 (dk_at dksX1_moves_2 1 rfl rfl)
theorem dX1_moves_49 : decode cX1_moves 49 = .ok (.iinc 2 1, 3) := dk_132 2 1 (dk_at dksX1_moves_2 2 rfl rfl)
theorem dX1_moves_52 : decode cX1_moves 52 = .ok (.goto (-21), 3) := dk_167 255 235 (dk_at dksX1_moves_2 5 rfl rfl)
theorem dX1_moves_55 : decode cX1_moves 55 = .ok (.aload_n 0, 1) := dk_42 (dk_at dksX1_moves_2 8 rfl rfl)
theorem dX1_moves_56 : decode cX1_moves 56 = .ok (.getfield 20, 3) := dk_180 0 20 (dk_at dksX1_moves_2 9 rfl rfl)
theorem dX1_moves_59 : decode cX1_moves 59 = .ok (.aload_n 1, 1) := dk_43 (dk_at dksX1_moves_2 12 rfl rfl)
theorem dX1_moves_60 : decode cX1_moves 60 = .ok (.getfield 20, 3) := dk_180 0 20 (dk_at dksX1_moves_2 13 rfl rfl)
theorem dX1_moves_63 : decode cX1_moves 63 = .ok (.invokevirtual 82, 3) := dk_182 0 82 (dk_at dksX1_moves_2 16 rfl rfl)
theorem dX1_moves_66 : decode cX1_moves 66 = .ok (.aload_n 0, 1) := dk_42 (dk_at dksX1_moves_2 19 rfl rfl)
theorem dX1_moves_67 : decode cX1_moves 67 = .ok (.aload_n 1, 1) := dk_43 (dk_at dksX1_moves_2 20 rfl rfl)
theorem dX1_moves_68 : decode cX1_moves 68 = .ok (.getfield 73, 3) := dk_180 0 73 (dk_at dksX1_moves_2 21 rfl rfl)
theorem dX1_moves_71 : decode cX1_moves 71 = .ok (.putfield 73, 3) := dk_181 0 73 (dk_at dksX1_moves_3 0 rfl rfl)
theorem dX1_moves_74 : decode cX1_moves 74 = .ok (.aload_n 0, 1) := dk_42 (dk_at dksX1_moves_3 3 rfl rfl)
theorem dX1_moves_75 : decode cX1_moves 75 = .ok (.aload_n 1, 1) := dk_43 (dk_at dksX1_moves_3 4 rfl rfl)
theorem dX1_moves_76 : decode cX1_moves 76 = .ok (.getfield 85, 3) := dk_180 0 85 (dk_at dksX1_moves_3 5 rfl rfl)
theorem dX1_moves_79 : decode cX1_moves 79 = .ok (.putfield 85, 3) := dk_181 0 85 (dk_at dksX1_moves_3 8 rfl rfl)
theorem dX1_moves_82 : decode cX1_moves 82 = .ok (.aload_n 0, 1) := dk_42 (dk_at dksX1_moves_3 11 rfl rfl)
theorem dX1_moves_83 : decode cX1_moves 83 = .ok (.aload_n 1, 1) := dk_43 (dk_at dksX1_moves_3 12 rfl rfl)
theorem dX1_moves_84 : decode cX1_moves 84 = .ok (.getfield 88, 3) := dk_180 0 88 (dk_at dksX1_moves_3 13 rfl rfl)
theorem dX1_moves_87 : decode cX1_moves 87 = .ok (.putfield 88, 3) := dk_181 0 88 (dk_at dksX1_moves_3 16 rfl rfl)
theorem dX1_moves_90 : decode cX1_moves 90 = .ok (.aload_n 0, 1) := dk_42 (dk_at dksX1_moves_3 19 rfl rfl)
theorem dX1_moves_91 : decode cX1_moves 91 = .ok (.aload_n 1, 1) := dk_43 (dk_at dksX1_moves_3 20 rfl rfl)
theorem dX1_moves_92 : decode cX1_moves 92 = .ok (.getfield 91, 3) := dk_180 0 91 (dk_at dksX1_moves_3 21 rfl rfl)
theorem dX1_moves_95 : decode cX1_moves 95 = .ok (.putfield 91, 3) := dk_181 0 91 (dk_at dksX1_moves_4 0 rfl rfl)
theorem dX1_moves_98 : decode cX1_moves 98 = .ok (.aload_n 0, 1) := dk_42 (dk_at dksX1_moves_4 3 rfl rfl)
theorem dX1_moves_99 : decode cX1_moves 99 = .ok (.aload_n 1, 1) := dk_43 (dk_at dksX1_moves_4 4 rfl rfl)
theorem dX1_moves_100 : decode cX1_moves 100 = .ok (.getfield 94, 3) := dk_180 0 94 (dk_at dksX1_moves_4 5 rfl rfl)
theorem dX1_moves_103 : decode cX1_moves 103 = .ok (.putfield 94, 3) := dk_181 0 94 (dk_at dksX1_moves_4 8 rfl rfl)
theorem dX1_moves_106 : decode cX1_moves 106 = .ok (.aload_n 0, 1) := dk_42 (dk_at dksX1_moves_4 11 rfl rfl)
theorem dX1_moves_107 : decode cX1_moves 107 = .ok (.aload_n 1, 1) := dk_43 (dk_at dksX1_moves_4 12 rfl rfl)
theorem dX1_moves_108 : decode cX1_moves 108 = .ok (.getfield 97, 3) := dk_180 0 97 (dk_at dksX1_moves_4 13 rfl rfl)
theorem dX1_moves_111 : decode cX1_moves 111 = .ok (.putfield 97, 3) := dk_181 0 97 (dk_at dksX1_moves_4 16 rfl rfl)
theorem dX1_moves_114 : decode cX1_moves 114 = .ok (.aload_n 0, 1) := dk_42 (dk_at dksX1_moves_4 19 rfl rfl)
theorem dX1_moves_115 : decode cX1_moves 115 = .ok (.aload_n 1, 1) := dk_43 (dk_at dksX1_moves_4 20 rfl rfl)
theorem dX1_moves_116 : decode cX1_moves 116 = .ok (.getfield 100, 3) := dk_180 0 100 (dk_at dksX1_moves_4 21 rfl rfl)
theorem dX1_moves_119 : decode cX1_moves 119 = .ok (.putfield 100, 3) := dk_181 0 100 (dk_at dksX1_moves_5 0 rfl rfl)
theorem dX1_moves_122 : decode cX1_moves 122 = .ok (.aload_n 0, 1) := dk_42 (dk_at dksX1_moves_5 3 rfl rfl)
theorem dX1_moves_123 : decode cX1_moves 123 = .ok (.aload_n 1, 1) := dk_43 (dk_at dksX1_moves_5 4 rfl rfl)
theorem dX1_moves_124 : decode cX1_moves 124 = .ok (.getfield 103, 3) := dk_180 0 103 (dk_at dksX1_moves_5 5 rfl rfl)
theorem dX1_moves_127 : decode cX1_moves 127 = .ok (.putfield 103, 3) := dk_181 0 103 (dk_at dksX1_moves_5 8 rfl rfl)
theorem dX1_moves_130 : decode cX1_moves 130 = .ok (.aload_n 0, 1) := dk_42 (dk_at dksX1_moves_5 11 rfl rfl)
theorem dX1_moves_131 : decode cX1_moves 131 = .ok (.aload_n 1, 1) := dk_43 (dk_at dksX1_moves_5 12 rfl rfl)
theorem dX1_moves_132 : decode cX1_moves 132 = .ok (.getfield 106, 3) := dk_180 0 106 (dk_at dksX1_moves_5 13 rfl rfl)
theorem dX1_moves_135 : decode cX1_moves 135 = .ok (.putfield 106, 3) := dk_181 0 106 (dk_at dksX1_moves_5 16 rfl rfl)
theorem dX1_moves_138 : decode cX1_moves 138 = .ok (.aload_n 0, 1) := dk_42 (dk_at dksX1_moves_5 19 rfl rfl)
theorem dX1_moves_139 : decode cX1_moves 139 = .ok (.aload_n 1, 1) := dk_43 (dk_at dksX1_moves_5 20 rfl rfl)
theorem dX1_moves_140 : decode cX1_moves 140 = .ok (.getfield 109, 3) := dk_180 0 109 (dk_at dksX1_moves_5 21 rfl rfl)
theorem dX1_moves_143 : decode cX1_moves 143 = .ok (.putfield 109, 3) := dk_181 0 109 (dk_at dksX1_moves_6 0 rfl rfl)
theorem dX1_moves_146 : decode cX1_moves 146 = .ok (.return_, 1) := dk_177 (dk_at dksX1_moves_6 3 rfl rfl)
abbrev cX1_posts : ByteArray := prog_16_method_12_code
def yX1_posts : MethodName := ⟨RX1, "posts", "(III)Z"⟩
def dkwX1_posts_1 : List UInt8 := [180, 0, 103, 27, 182, 0, 200, 42, 89, 180, 0, 103, 4, 96, 181, 0, 103, 4, 172]
abbrev dktX1_posts_1 : List UInt8 := dkwX1_posts_1 ++ []
def dkwX1_posts_0 : List UInt8 := [42, 180, 0, 20, 42, 180, 0, 103, 27, 28, 29, 182, 0, 196, 154, 0, 5, 3, 172, 42, 3, 42]
abbrev dktX1_posts_0 : List UInt8 := dkwX1_posts_0 ++ dktX1_posts_1
theorem dksX1_posts_0 : cX1_posts.data.toList.drop 0 = dktX1_posts_0 := by decide +kernel
theorem dksX1_posts_1 : cX1_posts.data.toList.drop 22 = dktX1_posts_1 := dk_seg dksX1_posts_0 22 rfl rfl
theorem dX1_posts_0 : decode cX1_posts 0 = .ok (.aload_n 0, 1) := dk_42 (dk_at dksX1_posts_0 0 rfl rfl)
theorem dX1_posts_1 : decode cX1_posts 1 = .ok (.getfield 20, 3) := dk_180 0 20 (dk_at dksX1_posts_0 1 rfl rfl)
theorem dX1_posts_4 : decode cX1_posts 4 = .ok (.aload_n 0, 1) := dk_42 (dk_at dksX1_posts_0 4 rfl rfl)
theorem dX1_posts_5 : decode cX1_posts 5 = .ok (.getfield 103, 3) := dk_180 0 103 (dk_at dksX1_posts_0 5 rfl rfl)
theorem dX1_posts_8 : decode cX1_posts 8 = .ok (.iload_n 1, 1) := dk_27 (dk_at dksX1_posts_0 8 rfl rfl)
theorem dX1_posts_9 : decode cX1_posts 9 = .ok (.iload_n 2, 1) := dk_28 (dk_at dksX1_posts_0 9 rfl rfl)
theorem dX1_posts_10 : decode cX1_posts 10 = .ok (.iload_n 3, 1) := dk_29 (dk_at dksX1_posts_0 10 rfl rfl)
theorem dX1_posts_11 : decode cX1_posts 11 = .ok (.invokevirtual 196, 3) := dk_182 0 196 (dk_at dksX1_posts_0 11 rfl rfl)
theorem dX1_posts_14 : decode cX1_posts 14 = .ok (.ifCond .ne 5, 3) := dk_154 0 5 (dk_at dksX1_posts_0 14 rfl rfl)
theorem dX1_posts_17 : decode cX1_posts 17 = .ok (.iconst 0, 1) := dk_3 (dk_at dksX1_posts_0 17 rfl rfl)
theorem dX1_posts_18 : decode cX1_posts 18 = .ok (.ireturn, 1) := dk_172 (dk_at dksX1_posts_0 18 rfl rfl)
theorem dX1_posts_19 : decode cX1_posts 19 = .ok (.aload_n 0, 1) := dk_42 (dk_at dksX1_posts_0 19 rfl rfl)
theorem dX1_posts_20 : decode cX1_posts 20 = .ok (.iconst 0, 1) := dk_3 (dk_at dksX1_posts_0 20 rfl rfl)
theorem dX1_posts_21 : decode cX1_posts 21 = .ok (.aload_n 0, 1) := dk_42 (dk_at dksX1_posts_0 21 rfl rfl)
theorem dX1_posts_22 : decode cX1_posts 22 = .ok (.getfield 103, 3) := dk_180 0 103 (dk_at dksX1_posts_1 0 rfl rfl)
theorem dX1_posts_25 : decode cX1_posts 25 = .ok (.iload_n 1, 1) := dk_27 (dk_at dksX1_posts_1 3 rfl rfl)
theorem dX1_posts_26 : decode cX1_posts 26 = .ok (.invokevirtual 200, 3) := dk_182 0 200 (dk_at dksX1_posts_1 4 rfl rfl)
theorem dX1_posts_29 : decode cX1_posts 29 = .ok (.aload_n 0, 1) := dk_42 (dk_at dksX1_posts_1 7 rfl rfl)
theorem dX1_posts_30 : decode cX1_posts 30 = .ok (.dup, 1) := dk_89 (dk_at dksX1_posts_1 8 rfl rfl)
theorem dX1_posts_31 : decode cX1_posts 31 = .ok (.getfield 103, 3) := dk_180 0 103 (dk_at dksX1_posts_1 9 rfl rfl)
theorem dX1_posts_34 : decode cX1_posts 34 = .ok (.iconst 1, 1) := dk_4 (dk_at dksX1_posts_1 12 rfl rfl)
theorem dX1_posts_35 : decode cX1_posts 35 = .ok (.iadd, 1) := dk_96 (dk_at dksX1_posts_1 13 rfl rfl)
theorem dX1_posts_36 : decode cX1_posts 36 = .ok (.putfield 103, 3) := dk_181 0 103 (dk_at dksX1_posts_1 14 rfl rfl)
theorem dX1_posts_39 : decode cX1_posts 39 = .ok (.iconst 1, 1) := dk_4 (dk_at dksX1_posts_1 17 rfl rfl)
theorem dX1_posts_40 : decode cX1_posts 40 = .ok (.ireturn, 1) := dk_172 (dk_at dksX1_posts_1 18 rfl rfl)
abbrev cX1_notes : ByteArray := prog_16_method_6_code
def yX1_notes : MethodName := ⟨RX1, "notes", "(III)V"⟩
def dkwX1_notes_2 : List UInt8 := [25, 4, 6, 29, 79, 42, 89, 180, 0, 109, 4, 96, 181, 0, 109, 177]
abbrev dktX1_notes_2 : List UInt8 := dkwX1_notes_2 ++ []
def dkwX1_notes_1 : List UInt8 := [180, 0, 109, 50, 58, 4, 25, 4, 3, 42, 180, 0, 100, 79, 25, 4, 4, 27, 79, 25, 4, 5, 28, 79]
abbrev dktX1_notes_1 : List UInt8 := dkwX1_notes_1 ++ dktX1_notes_2
def dkwX1_notes_0 : List UInt8 := [42, 180, 0, 133, 154, 0, 13, 42, 180, 0, 109, 17, 0, 150, 160, 0, 4, 177, 42, 180, 0, 33, 42]
abbrev dktX1_notes_0 : List UInt8 := dkwX1_notes_0 ++ dktX1_notes_1
theorem dksX1_notes_0 : cX1_notes.data.toList.drop 0 = dktX1_notes_0 := by decide +kernel
theorem dksX1_notes_1 : cX1_notes.data.toList.drop 23 = dktX1_notes_1 := dk_seg dksX1_notes_0 23 rfl rfl
theorem dksX1_notes_2 : cX1_notes.data.toList.drop 47 = dktX1_notes_2 := dk_seg dksX1_notes_1 24 rfl rfl
theorem dX1_notes_0 : decode cX1_notes 0 = .ok (.aload_n 0, 1) := dk_42 (dk_at dksX1_notes_0 0 rfl rfl)
theorem dX1_notes_1 : decode cX1_notes 1 = .ok (.getfield 133, 3) := dk_180 0 133 (dk_at dksX1_notes_0 1 rfl rfl)
theorem dX1_notes_4 : decode cX1_notes 4 = .ok (.ifCond .ne 13, 3) := dk_154 0 13 (dk_at dksX1_notes_0 4 rfl rfl)
theorem dX1_notes_7 : decode cX1_notes 7 = .ok (.aload_n 0, 1) := dk_42 (dk_at dksX1_notes_0 7 rfl rfl)
theorem dX1_notes_8 : decode cX1_notes 8 = .ok (.getfield 109, 3) := dk_180 0 109 (dk_at dksX1_notes_0 8 rfl rfl)
theorem dX1_notes_11 : decode cX1_notes 11 = .ok (.sipush 150, 3) := dk_17 0 150 (dk_at dksX1_notes_0 11 rfl rfl)
theorem dX1_notes_14 : decode cX1_notes 14 = .ok (.if_icmp .ne 4, 3) := dk_160 0 4 (dk_at dksX1_notes_0 14 rfl rfl)
theorem dX1_notes_17 : decode cX1_notes 17 = .ok (.return_, 1) := dk_177 (dk_at dksX1_notes_0 17 rfl rfl)
theorem dX1_notes_18 : decode cX1_notes 18 = .ok (.aload_n 0, 1) := dk_42 (dk_at dksX1_notes_0 18 rfl rfl)
theorem dX1_notes_19 : decode cX1_notes 19 = .ok (.getfield 33, 3) := dk_180 0 33 (dk_at dksX1_notes_0 19 rfl rfl)
theorem dX1_notes_22 : decode cX1_notes 22 = .ok (.aload_n 0, 1) := dk_42 (dk_at dksX1_notes_0 22 rfl rfl)
theorem dX1_notes_23 : decode cX1_notes 23 = .ok (.getfield 109, 3) := dk_180 0 109 (dk_at dksX1_notes_1 0 rfl rfl)
theorem dX1_notes_26 : decode cX1_notes 26 = .ok (.aaload, 1) := dk_50 (dk_at dksX1_notes_1 3 rfl rfl)
theorem dX1_notes_27 : decode cX1_notes 27 = .ok (.astore 4, 2) := dk_58 4 (dk_at dksX1_notes_1 4 rfl rfl)
theorem dX1_notes_29 : decode cX1_notes 29 = .ok (.aload 4, 2) := dk_25 4 (dk_at dksX1_notes_1 6 rfl rfl)
theorem dX1_notes_31 : decode cX1_notes 31 = .ok (.iconst 0, 1) := dk_3 (dk_at dksX1_notes_1 8 rfl rfl)
theorem dX1_notes_32 : decode cX1_notes 32 = .ok (.aload_n 0, 1) := dk_42 (dk_at dksX1_notes_1 9 rfl rfl)
theorem dX1_notes_33 : decode cX1_notes 33 = .ok (.getfield 100, 3) := dk_180 0 100 (dk_at dksX1_notes_1 10 rfl rfl)
theorem dX1_notes_36 : decode cX1_notes 36 = .ok (.iastore, 1) := dk_79 (dk_at dksX1_notes_1 13 rfl rfl)
theorem dX1_notes_37 : decode cX1_notes 37 = .ok (.aload 4, 2) := dk_25 4 (dk_at dksX1_notes_1 14 rfl rfl)
theorem dX1_notes_39 : decode cX1_notes 39 = .ok (.iconst 1, 1) := dk_4 (dk_at dksX1_notes_1 16 rfl rfl)
theorem dX1_notes_40 : decode cX1_notes 40 = .ok (.iload_n 1, 1) := dk_27 (dk_at dksX1_notes_1 17 rfl rfl)
theorem dX1_notes_41 : decode cX1_notes 41 = .ok (.iastore, 1) := dk_79 (dk_at dksX1_notes_1 18 rfl rfl)
theorem dX1_notes_42 : decode cX1_notes 42 = .ok (.aload 4, 2) := dk_25 4 (dk_at dksX1_notes_1 19 rfl rfl)
theorem dX1_notes_44 : decode cX1_notes 44 = .ok (.iconst 2, 1) := dk_5 (dk_at dksX1_notes_1 21 rfl rfl)
theorem dX1_notes_45 : decode cX1_notes 45 = .ok (.iload_n 2, 1) := dk_28 (dk_at dksX1_notes_1 22 rfl rfl)
theorem dX1_notes_46 : decode cX1_notes 46 = .ok (.iastore, 1) := dk_79 (dk_at dksX1_notes_1 23 rfl rfl)
theorem dX1_notes_47 : decode cX1_notes 47 = .ok (.aload 4, 2) := dk_25 4 (dk_at dksX1_notes_2 0 rfl rfl)
theorem dX1_notes_49 : decode cX1_notes 49 = .ok (.iconst 3, 1) := dk_6 (dk_at dksX1_notes_2 2 rfl rfl)
theorem dX1_notes_50 : decode cX1_notes 50 = .ok (.iload_n 3, 1) := dk_29 (dk_at dksX1_notes_2 3 rfl rfl)
theorem dX1_notes_51 : decode cX1_notes 51 = .ok (.iastore, 1) := dk_79 (dk_at dksX1_notes_2 4 rfl rfl)
theorem dX1_notes_52 : decode cX1_notes 52 = .ok (.aload_n 0, 1) := dk_42 (dk_at dksX1_notes_2 5 rfl rfl)
theorem dX1_notes_53 : decode cX1_notes 53 = .ok (.dup, 1) := dk_89 (dk_at dksX1_notes_2 6 rfl rfl)
theorem dX1_notes_54 : decode cX1_notes 54 = .ok (.getfield 109, 3) := dk_180 0 109 (dk_at dksX1_notes_2 7 rfl rfl)
theorem dX1_notes_57 : decode cX1_notes 57 = .ok (.iconst 1, 1) := dk_4 (dk_at dksX1_notes_2 10 rfl rfl)
theorem dX1_notes_58 : decode cX1_notes 58 = .ok (.iadd, 1) := dk_96 (dk_at dksX1_notes_2 11 rfl rfl)
theorem dX1_notes_59 : decode cX1_notes 59 = .ok (.putfield 109, 3) := dk_181 0 109 (dk_at dksX1_notes_2 12 rfl rfl)
theorem dX1_notes_62 : decode cX1_notes 62 = .ok (.return_, 1) := dk_177 (dk_at dksX1_notes_2 15 rfl rfl)
abbrev cX1_brings : ByteArray := prog_16_method_14_code
def yX1_brings : MethodName := ⟨RX1, "brings", "(I)I"⟩
def dkwX1_brings_8 : List UInt8 := [42, 180, 0, 20, 27, 182, 0, 244, 21, 5, 172]
abbrev dktX1_brings_8 : List UInt8 := dkwX1_brings_8 ++ []
def dkwX1_brings_7 : List UInt8 := [42, 16, 99, 42, 180, 0, 94, 42, 44, 182, 0, 241, 96, 184, 0, 213, 181, 0, 94, 21, 4, 153, 0, 11]
abbrev dktX1_brings_7 : List UInt8 := dkwX1_brings_7 ++ dktX1_brings_8
def dkwX1_brings_6 : List UInt8 := [180, 0, 238, 21, 5, 182, 0, 200, 167, 0, 16, 42, 5, 44, 180, 0, 238, 44, 180, 0, 141, 182, 0, 200]
abbrev dktX1_brings_6 : List UInt8 := dkwX1_brings_6 ++ dktX1_brings_7
def dkwX1_brings_5 : List UInt8 := [182, 0, 231, 42, 180, 0, 11, 44, 180, 0, 141, 50, 89, 180, 0, 235, 4, 96, 181, 0, 235, 42, 4, 44]
abbrev dktX1_brings_5 : List UInt8 := dkwX1_brings_5 ++ dktX1_brings_6
def dkwX1_brings_4 : List UInt8 := [184, 0, 213, 54, 5, 42, 180, 0, 24, 44, 180, 0, 145, 92, 46, 21, 5, 96, 79, 42, 44, 21, 5]
abbrev dktX1_brings_4 : List UInt8 := dkwX1_brings_4 ++ dktX1_brings_5
def dkwX1_brings_3 : List UInt8 := [54, 5, 44, 180, 0, 145, 4, 160, 0, 22, 21, 5, 42, 180, 0, 11, 44, 180, 0, 141, 50, 180, 0, 160]
abbrev dktX1_brings_3 : List UInt8 := dkwX1_brings_3 ++ dktX1_brings_4
def dkwX1_brings_2 : List UInt8 := [162, 0, 7, 4, 167, 0, 4, 3, 54, 4, 2, 54, 5, 21, 4, 153, 0, 90, 42, 44, 182, 0, 228]
abbrev dktX1_brings_2 : List UInt8 := dkwX1_brings_2 ++ dktX1_brings_3
def dkwX1_brings_1 : List UInt8 := [17, 1, 244, 161, 0, 7, 4, 167, 0, 23, 3, 167, 0, 19, 42, 17, 3, 232, 182, 0, 224, 29]
abbrev dktX1_brings_1 : List UInt8 := dkwX1_brings_1 ++ dktX1_brings_2
def dkwX1_brings_0 : List UInt8 := [42, 180, 0, 20, 180, 0, 216, 27, 50, 77, 42, 44, 182, 0, 220, 62, 42, 180, 0, 133, 153, 0, 18, 29]
abbrev dktX1_brings_0 : List UInt8 := dkwX1_brings_0 ++ dktX1_brings_1
theorem dksX1_brings_0 : cX1_brings.data.toList.drop 0 = dktX1_brings_0 := by decide +kernel
theorem dksX1_brings_1 : cX1_brings.data.toList.drop 24 = dktX1_brings_1 := dk_seg dksX1_brings_0 24 rfl rfl
theorem dksX1_brings_2 : cX1_brings.data.toList.drop 46 = dktX1_brings_2 := dk_seg dksX1_brings_1 22 rfl rfl
theorem dksX1_brings_3 : cX1_brings.data.toList.drop 69 = dktX1_brings_3 := dk_seg dksX1_brings_2 23 rfl rfl
theorem dksX1_brings_4 : cX1_brings.data.toList.drop 93 = dktX1_brings_4 := dk_seg dksX1_brings_3 24 rfl rfl
theorem dksX1_brings_5 : cX1_brings.data.toList.drop 116 = dktX1_brings_5 := dk_seg dksX1_brings_4 23 rfl rfl
theorem dksX1_brings_6 : cX1_brings.data.toList.drop 140 = dktX1_brings_6 := dk_seg dksX1_brings_5 24 rfl rfl
theorem dksX1_brings_7 : cX1_brings.data.toList.drop 164 = dktX1_brings_7 := dk_seg dksX1_brings_6 24 rfl rfl
theorem dksX1_brings_8 : cX1_brings.data.toList.drop 188 = dktX1_brings_8 := dk_seg dksX1_brings_7 24 rfl rfl
theorem dX1_brings_0 : decode cX1_brings 0 = .ok (.aload_n 0, 1) := dk_42 (dk_at dksX1_brings_0 0 rfl rfl)
theorem dX1_brings_1 : decode cX1_brings 1 = .ok (.getfield 20, 3) := dk_180 0 20 (dk_at dksX1_brings_0 1 rfl rfl)
theorem dX1_brings_4 : decode cX1_brings 4 = .ok (.getfield 216, 3) := dk_180 0 216 (dk_at dksX1_brings_0 4 rfl rfl)
theorem dX1_brings_7 : decode cX1_brings 7 = .ok (.iload_n 1, 1) := dk_27 (dk_at dksX1_brings_0 7 rfl rfl)
theorem dX1_brings_8 : decode cX1_brings 8 = .ok (.aaload, 1) := dk_50 (dk_at dksX1_brings_0 8 rfl rfl)
theorem dX1_brings_9 : decode cX1_brings 9 = .ok (.astore_n 2, 1) := dk_77 (dk_at dksX1_brings_0 9 rfl rfl)
theorem dX1_brings_10 : decode cX1_brings 10 = .ok (.aload_n 0, 1) := dk_42 (dk_at dksX1_brings_0 10 rfl rfl)
theorem dX1_brings_11 : decode cX1_brings 11 = .ok (.aload_n 2, 1) := dk_44 (dk_at dksX1_brings_0 11 rfl rfl)
theorem dX1_brings_12 : decode cX1_brings 12 = .ok (.invokevirtual 220, 3) := dk_182 0 220 (dk_at dksX1_brings_0 12 rfl rfl)
theorem dX1_brings_15 : decode cX1_brings 15 = .ok (.istore_n 3, 1) := dk_62 (dk_at dksX1_brings_0 15 rfl rfl)
theorem dX1_brings_16 : decode cX1_brings 16 = .ok (.aload_n 0, 1) := dk_42 (dk_at dksX1_brings_0 16 rfl rfl)
theorem dX1_brings_17 : decode cX1_brings 17 = .ok (.getfield 133, 3) := dk_180 0 133 (dk_at dksX1_brings_0 17 rfl rfl)
theorem dX1_brings_20 : decode cX1_brings 20 = .ok (.ifCond .eq 18, 3) := dk_153 0 18 (dk_at dksX1_brings_0 20 rfl rfl)
theorem dX1_brings_23 : decode cX1_brings 23 = .ok (.iload_n 3, 1) := dk_29 (dk_at dksX1_brings_0 23 rfl rfl)
theorem dX1_brings_24 : decode cX1_brings 24 = .ok (.sipush 500, 3) := dk_17 1 244 (dk_at dksX1_brings_1 0 rfl rfl)
theorem dX1_brings_27 : decode cX1_brings 27 = .ok (.if_icmp .lt 7, 3) := dk_161 0 7 (dk_at dksX1_brings_1 3 rfl rfl)
theorem dX1_brings_30 : decode cX1_brings 30 = .ok (.iconst 1, 1) := dk_4 (dk_at dksX1_brings_1 6 rfl rfl)
theorem dX1_brings_31 : decode cX1_brings 31 = .ok (.goto 23, 3) := dk_167 0 23 (dk_at dksX1_brings_1 7 rfl rfl)
theorem dX1_brings_34 : decode cX1_brings 34 = .ok (.iconst 0, 1) := dk_3 (dk_at dksX1_brings_1 10 rfl rfl)
theorem dX1_brings_35 : decode cX1_brings 35 = .ok (.goto 19, 3) := dk_167 0 19 (dk_at dksX1_brings_1 11 rfl rfl)
theorem dX1_brings_38 : decode cX1_brings 38 = .ok (.aload_n 0, 1) := dk_42 (dk_at dksX1_brings_1 14 rfl rfl)
theorem dX1_brings_39 : decode cX1_brings 39 = .ok (.sipush 1000, 3) := dk_17 3 232 (dk_at dksX1_brings_1 15 rfl rfl)
theorem dX1_brings_42 : decode cX1_brings 42 = .ok (.invokevirtual 224, 3) := dk_182 0 224 (dk_at dksX1_brings_1 18 rfl rfl)
theorem dX1_brings_45 : decode cX1_brings 45 = .ok (.iload_n 3, 1) := dk_29 (dk_at dksX1_brings_1 21 rfl rfl)
theorem dX1_brings_46 : decode cX1_brings 46 = .ok (.if_icmp .ge 7, 3) := dk_162 0 7 (dk_at dksX1_brings_2 0 rfl rfl)
theorem dX1_brings_49 : decode cX1_brings 49 = .ok (.iconst 1, 1) := dk_4 (dk_at dksX1_brings_2 3 rfl rfl)
theorem dX1_brings_50 : decode cX1_brings 50 = .ok (.goto 4, 3) := dk_167 0 4 (dk_at dksX1_brings_2 4 rfl rfl)
theorem dX1_brings_53 : decode cX1_brings 53 = .ok (.iconst 0, 1) := dk_3 (dk_at dksX1_brings_2 7 rfl rfl)
theorem dX1_brings_54 : decode cX1_brings 54 = .ok (.istore 4, 2) := dk_54 4 (dk_at dksX1_brings_2 8 rfl rfl)
theorem dX1_brings_56 : decode cX1_brings 56 = .ok (.iconst (-1), 1) := dk_2 (dk_at dksX1_brings_2 10 rfl rfl)
theorem dX1_brings_57 : decode cX1_brings 57 = .ok (.istore 5, 2) := dk_54 5 (dk_at dksX1_brings_2 11 rfl rfl)
theorem dX1_brings_59 : decode cX1_brings 59 = .ok (.iload 4, 2) := dk_21 4 (dk_at dksX1_brings_2 13 rfl rfl)
theorem dX1_brings_61 : decode cX1_brings 61 = .ok (.ifCond .eq 90, 3) := dk_153 0 90 (dk_at dksX1_brings_2 15 rfl rfl)
theorem dX1_brings_64 : decode cX1_brings 64 = .ok (.aload_n 0, 1) := dk_42 (dk_at dksX1_brings_2 18 rfl rfl)
theorem dX1_brings_65 : decode cX1_brings 65 = .ok (.aload_n 2, 1) := dk_44 (dk_at dksX1_brings_2 19 rfl rfl)
theorem dX1_brings_66 : decode cX1_brings 66 = .ok (.invokevirtual 228, 3) := dk_182 0 228 (dk_at dksX1_brings_2 20 rfl rfl)
theorem dX1_brings_69 : decode cX1_brings 69 = .ok (.istore 5, 2) := dk_54 5 (dk_at dksX1_brings_3 0 rfl rfl)
theorem dX1_brings_71 : decode cX1_brings 71 = .ok (.aload_n 2, 1) := dk_44 (dk_at dksX1_brings_3 2 rfl rfl)
theorem dX1_brings_72 : decode cX1_brings 72 = .ok (.getfield 145, 3) := dk_180 0 145 (dk_at dksX1_brings_3 3 rfl rfl)
theorem dX1_brings_75 : decode cX1_brings 75 = .ok (.iconst 1, 1) := dk_4 (dk_at dksX1_brings_3 6 rfl rfl)
theorem dX1_brings_76 : decode cX1_brings 76 = .ok (.if_icmp .ne 22, 3) := dk_160 0 22 (dk_at dksX1_brings_3 7 rfl rfl)
theorem dX1_brings_79 : decode cX1_brings 79 = .ok (.iload 5, 2) := dk_21 5 (dk_at dksX1_brings_3 10 rfl rfl)
theorem dX1_brings_81 : decode cX1_brings 81 = .ok (.aload_n 0, 1) := dk_42 (dk_at dksX1_brings_3 12 rfl rfl)
theorem dX1_brings_82 : decode cX1_brings 82 = .ok (.getfield 11, 3) := dk_180 0 11 (dk_at dksX1_brings_3 13 rfl rfl)
theorem dX1_brings_85 : decode cX1_brings 85 = .ok (.aload_n 2, 1) := dk_44 (dk_at dksX1_brings_3 16 rfl rfl)
theorem dX1_brings_86 : decode cX1_brings 86 = .ok (.getfield 141, 3) := dk_180 0 141 (dk_at dksX1_brings_3 17 rfl rfl)
theorem dX1_brings_89 : decode cX1_brings 89 = .ok (.aaload, 1) := dk_50 (dk_at dksX1_brings_3 20 rfl rfl)
theorem dX1_brings_90 : decode cX1_brings 90 = .ok (.getfield 160, 3) := dk_180 0 160 (dk_at dksX1_brings_3 21 rfl rfl)
theorem dX1_brings_93 : decode cX1_brings 93 = .ok (.invokestatic 213, 3) := dk_184 0 213 (dk_at dksX1_brings_4 0 rfl rfl)
theorem dX1_brings_96 : decode cX1_brings 96 = .ok (.istore 5, 2) := dk_54 5 (dk_at dksX1_brings_4 3 rfl rfl)
theorem dX1_brings_98 : decode cX1_brings 98 = .ok (.aload_n 0, 1) := dk_42 (dk_at dksX1_brings_4 5 rfl rfl)
theorem dX1_brings_99 : decode cX1_brings 99 = .ok (.getfield 24, 3) := dk_180 0 24 (dk_at dksX1_brings_4 6 rfl rfl)
theorem dX1_brings_102 : decode cX1_brings 102 = .ok (.aload_n 2, 1) := dk_44 (dk_at dksX1_brings_4 9 rfl rfl)
theorem dX1_brings_103 : decode cX1_brings 103 = .ok (.getfield 145, 3) := dk_180 0 145 (dk_at dksX1_brings_4 10 rfl rfl)
theorem dX1_brings_106 : decode cX1_brings 106 = .ok (.dup2, 1) := dk_92 (dk_at dksX1_brings_4 13 rfl rfl)
theorem dX1_brings_107 : decode cX1_brings 107 = .ok (.iaload, 1) := dk_46 (dk_at dksX1_brings_4 14 rfl rfl)
theorem dX1_brings_108 : decode cX1_brings 108 = .ok (.iload 5, 2) := dk_21 5 (dk_at dksX1_brings_4 15 rfl rfl)
theorem dX1_brings_110 : decode cX1_brings 110 = .ok (.iadd, 1) := dk_96 (dk_at dksX1_brings_4 17 rfl rfl)
theorem dX1_brings_111 : decode cX1_brings 111 = .ok (.iastore, 1) := dk_79 (dk_at dksX1_brings_4 18 rfl rfl)
theorem dX1_brings_112 : decode cX1_brings 112 = .ok (.aload_n 0, 1) := dk_42 (dk_at dksX1_brings_4 19 rfl rfl)
theorem dX1_brings_113 : decode cX1_brings 113 = .ok (.aload_n 2, 1) := dk_44 (dk_at dksX1_brings_4 20 rfl rfl)
theorem dX1_brings_114 : decode cX1_brings 114 = .ok (.iload 5, 2) := dk_21 5 (dk_at dksX1_brings_4 21 rfl rfl)
theorem dX1_brings_116 : decode cX1_brings 116 = .ok (.invokevirtual 231, 3) := dk_182 0 231 (dk_at dksX1_brings_5 0 rfl rfl)
theorem dX1_brings_119 : decode cX1_brings 119 = .ok (.aload_n 0, 1) := dk_42 (dk_at dksX1_brings_5 3 rfl rfl)
theorem dX1_brings_120 : decode cX1_brings 120 = .ok (.getfield 11, 3) := dk_180 0 11 (dk_at dksX1_brings_5 4 rfl rfl)
theorem dX1_brings_123 : decode cX1_brings 123 = .ok (.aload_n 2, 1) := dk_44 (dk_at dksX1_brings_5 7 rfl rfl)
theorem dX1_brings_124 : decode cX1_brings 124 = .ok (.getfield 141, 3) := dk_180 0 141 (dk_at dksX1_brings_5 8 rfl rfl)
theorem dX1_brings_127 : decode cX1_brings 127 = .ok (.aaload, 1) := dk_50 (dk_at dksX1_brings_5 11 rfl rfl)
theorem dX1_brings_128 : decode cX1_brings 128 = .ok (.dup, 1) := dk_89 (dk_at dksX1_brings_5 12 rfl rfl)
theorem dX1_brings_129 : decode cX1_brings 129 = .ok (.getfield 235, 3) := dk_180 0 235 (dk_at dksX1_brings_5 13 rfl rfl)
theorem dX1_brings_132 : decode cX1_brings 132 = .ok (.iconst 1, 1) := dk_4 (dk_at dksX1_brings_5 16 rfl rfl)
theorem dX1_brings_133 : decode cX1_brings 133 = .ok (.iadd, 1) := dk_96 (dk_at dksX1_brings_5 17 rfl rfl)
theorem dX1_brings_134 : decode cX1_brings 134 = .ok (.putfield 235, 3) := dk_181 0 235 (dk_at dksX1_brings_5 18 rfl rfl)
theorem dX1_brings_137 : decode cX1_brings 137 = .ok (.aload_n 0, 1) := dk_42 (dk_at dksX1_brings_5 21 rfl rfl)
theorem dX1_brings_138 : decode cX1_brings 138 = .ok (.iconst 1, 1) := dk_4 (dk_at dksX1_brings_5 22 rfl rfl)
theorem dX1_brings_139 : decode cX1_brings 139 = .ok (.aload_n 2, 1) := dk_44 (dk_at dksX1_brings_5 23 rfl rfl)
theorem dX1_brings_140 : decode cX1_brings 140 = .ok (.getfield 238, 3) := dk_180 0 238 (dk_at dksX1_brings_6 0 rfl rfl)
theorem dX1_brings_143 : decode cX1_brings 143 = .ok (.iload 5, 2) := dk_21 5 (dk_at dksX1_brings_6 3 rfl rfl)
theorem dX1_brings_145 : decode cX1_brings 145 = .ok (.invokevirtual 200, 3) := dk_182 0 200 (dk_at dksX1_brings_6 5 rfl rfl)
theorem dX1_brings_148 : decode cX1_brings 148 = .ok (.goto 16, 3) := dk_167 0 16 (dk_at dksX1_brings_6 8 rfl rfl)
theorem dX1_brings_151 : decode cX1_brings 151 = .ok (.aload_n 0, 1) := dk_42 (dk_at dksX1_brings_6 11 rfl rfl)
theorem dX1_brings_152 : decode cX1_brings 152 = .ok (.iconst 2, 1) := dk_5 (dk_at dksX1_brings_6 12 rfl rfl)
theorem dX1_brings_153 : decode cX1_brings 153 = .ok (.aload_n 2, 1) := dk_44 (dk_at dksX1_brings_6 13 rfl rfl)
theorem dX1_brings_154 : decode cX1_brings 154 = .ok (.getfield 238, 3) := dk_180 0 238 (dk_at dksX1_brings_6 14 rfl rfl)
theorem dX1_brings_157 : decode cX1_brings 157 = .ok (.aload_n 2, 1) := dk_44 (dk_at dksX1_brings_6 17 rfl rfl)
theorem dX1_brings_158 : decode cX1_brings 158 = .ok (.getfield 141, 3) := dk_180 0 141 (dk_at dksX1_brings_6 18 rfl rfl)
theorem dX1_brings_161 : decode cX1_brings 161 = .ok (.invokevirtual 200, 3) := dk_182 0 200 (dk_at dksX1_brings_6 21 rfl rfl)
theorem dX1_brings_164 : decode cX1_brings 164 = .ok (.aload_n 0, 1) := dk_42 (dk_at dksX1_brings_7 0 rfl rfl)
theorem dX1_brings_165 : decode cX1_brings 165 = .ok (.bipush 99, 2) := dk_16 99 (dk_at dksX1_brings_7 1 rfl rfl)
theorem dX1_brings_167 : decode cX1_brings 167 = .ok (.aload_n 0, 1) := dk_42 (dk_at dksX1_brings_7 3 rfl rfl)
theorem dX1_brings_168 : decode cX1_brings 168 = .ok (.getfield 94, 3) := dk_180 0 94 (dk_at dksX1_brings_7 4 rfl rfl)
theorem dX1_brings_171 : decode cX1_brings 171 = .ok (.aload_n 0, 1) := dk_42 (dk_at dksX1_brings_7 7 rfl rfl)
theorem dX1_brings_172 : decode cX1_brings 172 = .ok (.aload_n 2, 1) := dk_44 (dk_at dksX1_brings_7 8 rfl rfl)
theorem dX1_brings_173 : decode cX1_brings 173 = .ok (.invokevirtual 241, 3) := dk_182 0 241 (dk_at dksX1_brings_7 9 rfl rfl)
theorem dX1_brings_176 : decode cX1_brings 176 = .ok (.iadd, 1) := dk_96 (dk_at dksX1_brings_7 12 rfl rfl)
theorem dX1_brings_177 : decode cX1_brings 177 = .ok (.invokestatic 213, 3) := dk_184 0 213 (dk_at dksX1_brings_7 13 rfl rfl)
theorem dX1_brings_180 : decode cX1_brings 180 = .ok (.putfield 94, 3) := dk_181 0 94 (dk_at dksX1_brings_7 16 rfl rfl)
theorem dX1_brings_183 : decode cX1_brings 183 = .ok (.iload 4, 2) := dk_21 4 (dk_at dksX1_brings_7 19 rfl rfl)
theorem dX1_brings_185 : decode cX1_brings 185 = .ok (.ifCond .eq 11, 3) := dk_153 0 11 (dk_at dksX1_brings_7 21 rfl rfl)
theorem dX1_brings_188 : decode cX1_brings 188 = .ok (.aload_n 0, 1) := dk_42 (dk_at dksX1_brings_8 0 rfl rfl)
theorem dX1_brings_189 : decode cX1_brings 189 = .ok (.getfield 20, 3) := dk_180 0 20 (dk_at dksX1_brings_8 1 rfl rfl)
theorem dX1_brings_192 : decode cX1_brings 192 = .ok (.iload_n 1, 1) := dk_27 (dk_at dksX1_brings_8 4 rfl rfl)
theorem dX1_brings_193 : decode cX1_brings 193 = .ok (.invokevirtual 244, 3) := dk_182 0 244 (dk_at dksX1_brings_8 5 rfl rfl)
theorem dX1_brings_196 : decode cX1_brings 196 = .ok (.iload 5, 2) := dk_21 5 (dk_at dksX1_brings_8 8 rfl rfl)
theorem dX1_brings_198 : decode cX1_brings 198 = .ok (.ireturn, 1) := dk_172 (dk_at dksX1_brings_8 10 rfl rfl)
abbrev cX1_opens : ByteArray := prog_16_method_9_code
def yX1_opens : MethodName := ⟨RX1, "opens", "(LKindPostman$Letter;)I"⟩
def dkwX1_opens_1 : List UInt8 := [180, 0, 141, 50, 180, 0, 154, 104, 96, 17, 3, 232, 182, 0, 192, 172]
abbrev dktX1_opens_1 : List UInt8 := dkwX1_opens_1 ++ []
def dkwX1_opens_0 : List UInt8 := [42, 16, 7, 43, 17, 3, 132, 16, 100, 42, 180, 0, 97, 104, 100, 16, 20, 42, 180, 0, 11, 43]
abbrev dktX1_opens_0 : List UInt8 := dkwX1_opens_0 ++ dktX1_opens_1
theorem dksX1_opens_0 : cX1_opens.data.toList.drop 0 = dktX1_opens_0 := by decide +kernel
theorem dksX1_opens_1 : cX1_opens.data.toList.drop 22 = dktX1_opens_1 := dk_seg dksX1_opens_0 22 rfl rfl
theorem dX1_opens_0 : decode cX1_opens 0 = .ok (.aload_n 0, 1) := dk_42 (dk_at dksX1_opens_0 0 rfl rfl)
theorem dX1_opens_1 : decode cX1_opens 1 = .ok (.bipush 7, 2) := dk_16 7 (dk_at dksX1_opens_0 1 rfl rfl)
theorem dX1_opens_3 : decode cX1_opens 3 = .ok (.aload_n 1, 1) := dk_43 (dk_at dksX1_opens_0 3 rfl rfl)
theorem dX1_opens_4 : decode cX1_opens 4 = .ok (.sipush 900, 3) := dk_17 3 132 (dk_at dksX1_opens_0 4 rfl rfl)
theorem dX1_opens_7 : decode cX1_opens 7 = .ok (.bipush 100, 2) := dk_16 100 (dk_at dksX1_opens_0 7 rfl rfl)
theorem dX1_opens_9 : decode cX1_opens 9 = .ok (.aload_n 0, 1) := dk_42 (dk_at dksX1_opens_0 9 rfl rfl)
theorem dX1_opens_10 : decode cX1_opens 10 = .ok (.getfield 97, 3) := dk_180 0 97 (dk_at dksX1_opens_0 10 rfl rfl)
theorem dX1_opens_13 : decode cX1_opens 13 = .ok (.imul, 1) := dk_104 (dk_at dksX1_opens_0 13 rfl rfl)
theorem dX1_opens_14 : decode cX1_opens 14 = .ok (.isub, 1) := dk_100 (dk_at dksX1_opens_0 14 rfl rfl)
theorem dX1_opens_15 : decode cX1_opens 15 = .ok (.bipush 20, 2) := dk_16 20 (dk_at dksX1_opens_0 15 rfl rfl)
theorem dX1_opens_17 : decode cX1_opens 17 = .ok (.aload_n 0, 1) := dk_42 (dk_at dksX1_opens_0 17 rfl rfl)
theorem dX1_opens_18 : decode cX1_opens 18 = .ok (.getfield 11, 3) := dk_180 0 11 (dk_at dksX1_opens_0 18 rfl rfl)
theorem dX1_opens_21 : decode cX1_opens 21 = .ok (.aload_n 1, 1) := dk_43 (dk_at dksX1_opens_0 21 rfl rfl)
theorem dX1_opens_22 : decode cX1_opens 22 = .ok (.getfield 141, 3) := dk_180 0 141 (dk_at dksX1_opens_1 0 rfl rfl)
theorem dX1_opens_25 : decode cX1_opens 25 = .ok (.aaload, 1) := dk_50 (dk_at dksX1_opens_1 3 rfl rfl)
theorem dX1_opens_26 : decode cX1_opens 26 = .ok (.getfield 154, 3) := dk_180 0 154 (dk_at dksX1_opens_1 4 rfl rfl)
theorem dX1_opens_29 : decode cX1_opens 29 = .ok (.imul, 1) := dk_104 (dk_at dksX1_opens_1 7 rfl rfl)
theorem dX1_opens_30 : decode cX1_opens 30 = .ok (.iadd, 1) := dk_96 (dk_at dksX1_opens_1 8 rfl rfl)
theorem dX1_opens_31 : decode cX1_opens 31 = .ok (.sipush 1000, 3) := dk_17 3 232 (dk_at dksX1_opens_1 9 rfl rfl)
theorem dX1_opens_34 : decode cX1_opens 34 = .ok (.invokevirtual 192, 3) := dk_182 0 192 (dk_at dksX1_opens_1 12 rfl rfl)
theorem dX1_opens_37 : decode cX1_opens 37 = .ok (.ireturn, 1) := dk_172 (dk_at dksX1_opens_1 15 rfl rfl)
abbrev cX1_tells : ByteArray := prog_16_method_8_code
def yX1_tells : MethodName := ⟨RX1, "tells", "(ILKindPostman$Letter;II)I"⟩
def dkwX1_tells_3 : List UInt8 := [182, 0, 179, 3, 21, 4, 184, 0, 188, 172, 132, 5, 1, 167, 255, 181, 29, 3, 21, 4, 184, 0, 188, 172]
abbrev dktX1_tells_3 : List UInt8 := dkwX1_tells_3 ++ []
def dkwX1_tells_2 : List UInt8 := [198, 0, 16, 25, 6, 180, 0, 175, 42, 182, 0, 179, 4, 160, 0, 19, 25, 6, 180, 0, 185, 42]
abbrev dktX1_tells_2 : List UInt8 := dkwX1_tells_2 ++ dktX1_tells_3
def dkwX1_tells_1 : List UInt8 := [21, 5, 182, 0, 167, 192, 0, 171, 58, 6, 25, 6, 180, 0, 173, 27, 160, 0, 40, 25, 6, 180, 0, 175]
abbrev dktX1_tells_1 : List UInt8 := dkwX1_tells_1 ++ dktX1_tells_2
def dkwX1_tells_0 : List UInt8 := [42, 44, 181, 0, 137, 3, 54, 5, 21, 5, 42, 180, 0, 60, 182, 0, 163, 162, 0, 69, 42, 180, 0, 60]
abbrev dktX1_tells_0 : List UInt8 := dkwX1_tells_0 ++ dktX1_tells_1
theorem dksX1_tells_0 : cX1_tells.data.toList.drop 0 = dktX1_tells_0 := by decide +kernel
theorem dksX1_tells_1 : cX1_tells.data.toList.drop 24 = dktX1_tells_1 := dk_seg dksX1_tells_0 24 rfl rfl
theorem dksX1_tells_2 : cX1_tells.data.toList.drop 48 = dktX1_tells_2 := dk_seg dksX1_tells_1 24 rfl rfl
theorem dksX1_tells_3 : cX1_tells.data.toList.drop 70 = dktX1_tells_3 := dk_seg dksX1_tells_2 22 rfl rfl
theorem dX1_tells_0 : decode cX1_tells 0 = .ok (.aload_n 0, 1) := dk_42 (dk_at dksX1_tells_0 0 rfl rfl)
theorem dX1_tells_1 : decode cX1_tells 1 = .ok (.aload_n 2, 1) := dk_44 (dk_at dksX1_tells_0 1 rfl rfl)
theorem dX1_tells_2 : decode cX1_tells 2 = .ok (.putfield 137, 3) := dk_181 0 137 (dk_at dksX1_tells_0 2 rfl rfl)
theorem dX1_tells_5 : decode cX1_tells 5 = .ok (.iconst 0, 1) := dk_3 (dk_at dksX1_tells_0 5 rfl rfl)
theorem dX1_tells_6 : decode cX1_tells 6 = .ok (.istore 5, 2) := dk_54 5 (dk_at dksX1_tells_0 6 rfl rfl)
theorem dX1_tells_8 : decode cX1_tells 8 = .ok (.iload 5, 2) := dk_21 5 (dk_at dksX1_tells_0 8 rfl rfl)
theorem dX1_tells_10 : decode cX1_tells 10 = .ok (.aload_n 0, 1) := dk_42 (dk_at dksX1_tells_0 10 rfl rfl)
theorem dX1_tells_11 : decode cX1_tells 11 = .ok (.getfield 60, 3) := dk_180 0 60 (dk_at dksX1_tells_0 11 rfl rfl)
theorem dX1_tells_14 : decode cX1_tells 14 = .ok (.invokevirtual 163, 3) := dk_182 0 163 (dk_at dksX1_tells_0 14 rfl rfl)
theorem dX1_tells_17 : decode cX1_tells 17 = .ok (.if_icmp .ge 69, 3) := dk_162 0 69 (dk_at dksX1_tells_0 17 rfl rfl)
theorem dX1_tells_20 : decode cX1_tells 20 = .ok (.aload_n 0, 1) := dk_42 (dk_at dksX1_tells_0 20 rfl rfl)
theorem dX1_tells_21 : decode cX1_tells 21 = .ok (.getfield 60, 3) := dk_180 0 60 (dk_at dksX1_tells_0 21 rfl rfl)
theorem dX1_tells_24 : decode cX1_tells 24 = .ok (.iload 5, 2) := dk_21 5 (dk_at dksX1_tells_1 0 rfl rfl)
theorem dX1_tells_26 : decode cX1_tells 26 = .ok (.invokevirtual 167, 3) := dk_182 0 167 (dk_at dksX1_tells_1 2 rfl rfl)
theorem dX1_tells_29 : decode cX1_tells 29 = .ok (.checkcast 171, 3) := dk_192 0 171 (dk_at dksX1_tells_1 5 rfl rfl)
theorem dX1_tells_32 : decode cX1_tells 32 = .ok (.astore 6, 2) := dk_58 6 (dk_at dksX1_tells_1 8 rfl rfl)
theorem dX1_tells_34 : decode cX1_tells 34 = .ok (.aload 6, 2) := dk_25 6 (dk_at dksX1_tells_1 10 rfl rfl)
theorem dX1_tells_36 : decode cX1_tells 36 = .ok (.getfield 173, 3) := dk_180 0 173 (dk_at dksX1_tells_1 12 rfl rfl)
theorem dX1_tells_39 : decode cX1_tells 39 = .ok (.iload_n 1, 1) := dk_27 (dk_at dksX1_tells_1 15 rfl rfl)
theorem dX1_tells_40 : decode cX1_tells 40 = .ok (.if_icmp .ne 40, 3) := dk_160 0 40 (dk_at dksX1_tells_1 16 rfl rfl)
theorem dX1_tells_43 : decode cX1_tells 43 = .ok (.aload 6, 2) := dk_25 6 (dk_at dksX1_tells_1 19 rfl rfl)
theorem dX1_tells_45 : decode cX1_tells 45 = .ok (.getfield 175, 3) := dk_180 0 175 (dk_at dksX1_tells_1 21 rfl rfl)
theorem dX1_tells_48 : decode cX1_tells 48 = .ok (.ifnull 16, 3) := dk_198 0 16 (dk_at dksX1_tells_2 0 rfl rfl)
theorem dX1_tells_51 : decode cX1_tells 51 = .ok (.aload 6, 2) := dk_25 6 (dk_at dksX1_tells_2 3 rfl rfl)
theorem dX1_tells_53 : decode cX1_tells 53 = .ok (.getfield 175, 3) := dk_180 0 175 (dk_at dksX1_tells_2 5 rfl rfl)
theorem dX1_tells_56 : decode cX1_tells 56 = .ok (.aload_n 0, 1) := dk_42 (dk_at dksX1_tells_2 8 rfl rfl)
theorem dX1_tells_57 : decode cX1_tells 57 = .ok (.invokevirtual 179, 3) := dk_182 0 179 (dk_at dksX1_tells_2 9 rfl rfl)
theorem dX1_tells_60 : decode cX1_tells 60 = .ok (.iconst 1, 1) := dk_4 (dk_at dksX1_tells_2 12 rfl rfl)
theorem dX1_tells_61 : decode cX1_tells 61 = .ok (.if_icmp .ne 19, 3) := dk_160 0 19 (dk_at dksX1_tells_2 13 rfl rfl)
theorem dX1_tells_64 : decode cX1_tells 64 = .ok (.aload 6, 2) := dk_25 6 (dk_at dksX1_tells_2 16 rfl rfl)
theorem dX1_tells_66 : decode cX1_tells 66 = .ok (.getfield 185, 3) := dk_180 0 185 (dk_at dksX1_tells_2 18 rfl rfl)
theorem dX1_tells_69 : decode cX1_tells 69 = .ok (.aload_n 0, 1) := dk_42 (dk_at dksX1_tells_2 21 rfl rfl)
theorem dX1_tells_70 : decode cX1_tells 70 = .ok (.invokevirtual 179, 3) := dk_182 0 179 (dk_at dksX1_tells_3 0 rfl rfl)
theorem dX1_tells_73 : decode cX1_tells 73 = .ok (.iconst 0, 1) := dk_3 (dk_at dksX1_tells_3 3 rfl rfl)
theorem dX1_tells_74 : decode cX1_tells 74 = .ok (.iload 4, 2) := dk_21 4 (dk_at dksX1_tells_3 4 rfl rfl)
theorem dX1_tells_76 : decode cX1_tells 76 = .ok (.invokestatic 188, 3) := dk_184 0 188 (dk_at dksX1_tells_3 6 rfl rfl)
theorem dX1_tells_79 : decode cX1_tells 79 = .ok (.ireturn, 1) := dk_172 (dk_at dksX1_tells_3 9 rfl rfl)
theorem dX1_tells_80 : decode cX1_tells 80 = .ok (.iinc 5 1, 3) := dk_132 5 1 (dk_at dksX1_tells_3 10 rfl rfl)
theorem dX1_tells_83 : decode cX1_tells 83 = .ok (.goto (-75), 3) := dk_167 255 181 (dk_at dksX1_tells_3 13 rfl rfl)
theorem dX1_tells_86 : decode cX1_tells 86 = .ok (.iload_n 3, 1) := dk_29 (dk_at dksX1_tells_3 16 rfl rfl)
theorem dX1_tells_87 : decode cX1_tells 87 = .ok (.iconst 0, 1) := dk_3 (dk_at dksX1_tells_3 17 rfl rfl)
theorem dX1_tells_88 : decode cX1_tells 88 = .ok (.iload 4, 2) := dk_21 4 (dk_at dksX1_tells_3 18 rfl rfl)
theorem dX1_tells_90 : decode cX1_tells 90 = .ok (.invokestatic 188, 3) := dk_184 0 188 (dk_at dksX1_tells_3 20 rfl rfl)
theorem dX1_tells_93 : decode cX1_tells 93 = .ok (.ireturn, 1) := dk_172 (dk_at dksX1_tells_3 23 rfl rfl)
abbrev cX1_fact : ByteArray := prog_16_method_7_code
def yX1_fact : MethodName := ⟨RX1, "fact", "(I)I"⟩
def dkwX1_fact_4 : List UInt8 := [172, 42, 180, 0, 94, 172, 42, 180, 0, 97, 172, 42, 180, 0, 100, 172]
abbrev dktX1_fact_4 : List UInt8 := dkwX1_fact_4 ++ []
def dkwX1_fact_3 : List UInt8 := [44, 180, 0, 154, 172, 44, 180, 0, 157, 172, 44, 180, 0, 160, 172, 42, 180, 0, 73, 172, 42, 180, 0, 85]
abbrev dktX1_fact_3 : List UInt8 := dkwX1_fact_3 ++ dktX1_fact_4
def dkwX1_fact_2 : List UInt8 := [42, 180, 0, 137, 180, 0, 145, 172, 42, 180, 0, 137, 180, 0, 148, 172, 42, 180, 0, 137, 180, 0, 151, 172]
abbrev dktX1_fact_2 : List UInt8 := dkwX1_fact_2 ++ dktX1_fact_3
def dkwX1_fact_1 : List UInt8 := [170, 0, 0, 0, 0, 113, 0, 0, 0, 0, 0, 0, 0, 9, 0, 0, 0, 54, 0, 0, 0, 62, 0, 0, 0, 70, 0, 0, 0, 78, 0, 0, 0, 83, 0, 0, 0, 88, 0, 0, 0, 93, 0, 0, 0, 98, 0, 0, 0, 103, 0, 0, 0, 108]
abbrev dktX1_fact_1 : List UInt8 := dkwX1_fact_1 ++ dktX1_fact_2
def dkwX1_fact_0 : List UInt8 := [42, 180, 0, 11, 42, 180, 0, 137, 180, 0, 141, 50, 77, 27]
abbrev dktX1_fact_0 : List UInt8 := dkwX1_fact_0 ++ dktX1_fact_1
theorem dksX1_fact_0 : cX1_fact.data.toList.drop 0 = dktX1_fact_0 := by decide +kernel
theorem dksX1_fact_1 : cX1_fact.data.toList.drop 14 = dktX1_fact_1 := dk_seg dksX1_fact_0 14 rfl rfl
theorem dksX1_fact_2 : cX1_fact.data.toList.drop 68 = dktX1_fact_2 := dk_seg dksX1_fact_1 54 rfl rfl
theorem dksX1_fact_3 : cX1_fact.data.toList.drop 92 = dktX1_fact_3 := dk_seg dksX1_fact_2 24 rfl rfl
theorem dksX1_fact_4 : cX1_fact.data.toList.drop 116 = dktX1_fact_4 := dk_seg dksX1_fact_3 24 rfl rfl
theorem dX1_fact_0 : decode cX1_fact 0 = .ok (.aload_n 0, 1) := dk_42 (dk_at dksX1_fact_0 0 rfl rfl)
theorem dX1_fact_1 : decode cX1_fact 1 = .ok (.getfield 11, 3) := dk_180 0 11 (dk_at dksX1_fact_0 1 rfl rfl)
theorem dX1_fact_4 : decode cX1_fact 4 = .ok (.aload_n 0, 1) := dk_42 (dk_at dksX1_fact_0 4 rfl rfl)
theorem dX1_fact_5 : decode cX1_fact 5 = .ok (.getfield 137, 3) := dk_180 0 137 (dk_at dksX1_fact_0 5 rfl rfl)
theorem dX1_fact_8 : decode cX1_fact 8 = .ok (.getfield 141, 3) := dk_180 0 141 (dk_at dksX1_fact_0 8 rfl rfl)
theorem dX1_fact_11 : decode cX1_fact 11 = .ok (.aaload, 1) := dk_50 (dk_at dksX1_fact_0 11 rfl rfl)
theorem dX1_fact_12 : decode cX1_fact 12 = .ok (.astore_n 2, 1) := dk_77 (dk_at dksX1_fact_0 12 rfl rfl)
theorem dX1_fact_13 : decode cX1_fact 13 = .ok (.iload_n 1, 1) := dk_27 (dk_at dksX1_fact_0 13 rfl rfl)
theorem dX1_fact_14 : decode cX1_fact 14 = .ok (.tableswitch 113 0 9 #[54, 62, 70, 78, 83, 88, 93, 98, 103, 108], 54) := by decide +kernel
theorem dX1_fact_68 : decode cX1_fact 68 = .ok (.aload_n 0, 1) := dk_42 (dk_at dksX1_fact_2 0 rfl rfl)
theorem dX1_fact_69 : decode cX1_fact 69 = .ok (.getfield 137, 3) := dk_180 0 137 (dk_at dksX1_fact_2 1 rfl rfl)
theorem dX1_fact_72 : decode cX1_fact 72 = .ok (.getfield 145, 3) := dk_180 0 145 (dk_at dksX1_fact_2 4 rfl rfl)
theorem dX1_fact_75 : decode cX1_fact 75 = .ok (.ireturn, 1) := dk_172 (dk_at dksX1_fact_2 7 rfl rfl)
theorem dX1_fact_76 : decode cX1_fact 76 = .ok (.aload_n 0, 1) := dk_42 (dk_at dksX1_fact_2 8 rfl rfl)
theorem dX1_fact_77 : decode cX1_fact 77 = .ok (.getfield 137, 3) := dk_180 0 137 (dk_at dksX1_fact_2 9 rfl rfl)
theorem dX1_fact_80 : decode cX1_fact 80 = .ok (.getfield 148, 3) := dk_180 0 148 (dk_at dksX1_fact_2 12 rfl rfl)
theorem dX1_fact_83 : decode cX1_fact 83 = .ok (.ireturn, 1) := dk_172 (dk_at dksX1_fact_2 15 rfl rfl)
theorem dX1_fact_84 : decode cX1_fact 84 = .ok (.aload_n 0, 1) := dk_42 (dk_at dksX1_fact_2 16 rfl rfl)
theorem dX1_fact_85 : decode cX1_fact 85 = .ok (.getfield 137, 3) := dk_180 0 137 (dk_at dksX1_fact_2 17 rfl rfl)
theorem dX1_fact_88 : decode cX1_fact 88 = .ok (.getfield 151, 3) := dk_180 0 151 (dk_at dksX1_fact_2 20 rfl rfl)
theorem dX1_fact_91 : decode cX1_fact 91 = .ok (.ireturn, 1) := dk_172 (dk_at dksX1_fact_2 23 rfl rfl)
theorem dX1_fact_92 : decode cX1_fact 92 = .ok (.aload_n 2, 1) := dk_44 (dk_at dksX1_fact_3 0 rfl rfl)
theorem dX1_fact_93 : decode cX1_fact 93 = .ok (.getfield 154, 3) := dk_180 0 154 (dk_at dksX1_fact_3 1 rfl rfl)
theorem dX1_fact_96 : decode cX1_fact 96 = .ok (.ireturn, 1) := dk_172 (dk_at dksX1_fact_3 4 rfl rfl)
theorem dX1_fact_97 : decode cX1_fact 97 = .ok (.aload_n 2, 1) := dk_44 (dk_at dksX1_fact_3 5 rfl rfl)
theorem dX1_fact_98 : decode cX1_fact 98 = .ok (.getfield 157, 3) := dk_180 0 157 (dk_at dksX1_fact_3 6 rfl rfl)
theorem dX1_fact_101 : decode cX1_fact 101 = .ok (.ireturn, 1) := dk_172 (dk_at dksX1_fact_3 9 rfl rfl)
theorem dX1_fact_102 : decode cX1_fact 102 = .ok (.aload_n 2, 1) := dk_44 (dk_at dksX1_fact_3 10 rfl rfl)
theorem dX1_fact_103 : decode cX1_fact 103 = .ok (.getfield 160, 3) := dk_180 0 160 (dk_at dksX1_fact_3 11 rfl rfl)
theorem dX1_fact_106 : decode cX1_fact 106 = .ok (.ireturn, 1) := dk_172 (dk_at dksX1_fact_3 14 rfl rfl)
theorem dX1_fact_107 : decode cX1_fact 107 = .ok (.aload_n 0, 1) := dk_42 (dk_at dksX1_fact_3 15 rfl rfl)
theorem dX1_fact_108 : decode cX1_fact 108 = .ok (.getfield 73, 3) := dk_180 0 73 (dk_at dksX1_fact_3 16 rfl rfl)
theorem dX1_fact_111 : decode cX1_fact 111 = .ok (.ireturn, 1) := dk_172 (dk_at dksX1_fact_3 19 rfl rfl)
theorem dX1_fact_112 : decode cX1_fact 112 = .ok (.aload_n 0, 1) := dk_42 (dk_at dksX1_fact_3 20 rfl rfl)
theorem dX1_fact_113 : decode cX1_fact 113 = .ok (.getfield 85, 3) := dk_180 0 85 (dk_at dksX1_fact_3 21 rfl rfl)
theorem dX1_fact_116 : decode cX1_fact 116 = .ok (.ireturn, 1) := dk_172 (dk_at dksX1_fact_4 0 rfl rfl)
theorem dX1_fact_117 : decode cX1_fact 117 = .ok (.aload_n 0, 1) := dk_42 (dk_at dksX1_fact_4 1 rfl rfl)
theorem dX1_fact_118 : decode cX1_fact 118 = .ok (.getfield 94, 3) := dk_180 0 94 (dk_at dksX1_fact_4 2 rfl rfl)
theorem dX1_fact_121 : decode cX1_fact 121 = .ok (.ireturn, 1) := dk_172 (dk_at dksX1_fact_4 5 rfl rfl)
theorem dX1_fact_122 : decode cX1_fact 122 = .ok (.aload_n 0, 1) := dk_42 (dk_at dksX1_fact_4 6 rfl rfl)
theorem dX1_fact_123 : decode cX1_fact 123 = .ok (.getfield 97, 3) := dk_180 0 97 (dk_at dksX1_fact_4 7 rfl rfl)
theorem dX1_fact_126 : decode cX1_fact 126 = .ok (.ireturn, 1) := dk_172 (dk_at dksX1_fact_4 10 rfl rfl)
theorem dX1_fact_127 : decode cX1_fact 127 = .ok (.aload_n 0, 1) := dk_42 (dk_at dksX1_fact_4 11 rfl rfl)
theorem dX1_fact_128 : decode cX1_fact 128 = .ok (.getfield 100, 3) := dk_180 0 100 (dk_at dksX1_fact_4 12 rfl rfl)
theorem dX1_fact_131 : decode cX1_fact 131 = .ok (.ireturn, 1) := dk_172 (dk_at dksX1_fact_4 15 rfl rfl)
abbrev cX1_draw : ByteArray := prog_16_method_5_code
def yX1_draw : MethodName := ⟨RX1, "draw", "(I)I"⟩
def dkwX1_draw_0 : List UInt8 := [42, 18, 131, 42, 180, 0, 106, 104, 18, 132, 96, 181, 0, 106, 42, 180, 0, 106, 16, 8, 124, 27, 112, 172]
abbrev dktX1_draw_0 : List UInt8 := dkwX1_draw_0 ++ []
theorem dksX1_draw_0 : cX1_draw.data.toList.drop 0 = dktX1_draw_0 := by decide +kernel
theorem dX1_draw_0 : decode cX1_draw 0 = .ok (.aload_n 0, 1) := dk_42 (dk_at dksX1_draw_0 0 rfl rfl)
theorem dX1_draw_1 : decode cX1_draw 1 = .ok (.ldc 131, 2) := dk_18 131 (dk_at dksX1_draw_0 1 rfl rfl)
theorem dX1_draw_3 : decode cX1_draw 3 = .ok (.aload_n 0, 1) := dk_42 (dk_at dksX1_draw_0 3 rfl rfl)
theorem dX1_draw_4 : decode cX1_draw 4 = .ok (.getfield 106, 3) := dk_180 0 106 (dk_at dksX1_draw_0 4 rfl rfl)
theorem dX1_draw_7 : decode cX1_draw 7 = .ok (.imul, 1) := dk_104 (dk_at dksX1_draw_0 7 rfl rfl)
theorem dX1_draw_8 : decode cX1_draw 8 = .ok (.ldc 132, 2) := dk_18 132 (dk_at dksX1_draw_0 8 rfl rfl)
theorem dX1_draw_10 : decode cX1_draw 10 = .ok (.iadd, 1) := dk_96 (dk_at dksX1_draw_0 10 rfl rfl)
theorem dX1_draw_11 : decode cX1_draw 11 = .ok (.putfield 106, 3) := dk_181 0 106 (dk_at dksX1_draw_0 11 rfl rfl)
theorem dX1_draw_14 : decode cX1_draw 14 = .ok (.aload_n 0, 1) := dk_42 (dk_at dksX1_draw_0 14 rfl rfl)
theorem dX1_draw_15 : decode cX1_draw 15 = .ok (.getfield 106, 3) := dk_180 0 106 (dk_at dksX1_draw_0 15 rfl rfl)
theorem dX1_draw_18 : decode cX1_draw 18 = .ok (.bipush 8, 2) := dk_16 8 (dk_at dksX1_draw_0 18 rfl rfl)
theorem dX1_draw_20 : decode cX1_draw 20 = .ok (.iushr, 1) := dk_124 (dk_at dksX1_draw_0 20 rfl rfl)
theorem dX1_draw_21 : decode cX1_draw 21 = .ok (.iload_n 1, 1) := dk_27 (dk_at dksX1_draw_0 21 rfl rfl)
theorem dX1_draw_22 : decode cX1_draw 22 = .ok (.irem, 1) := dk_112 (dk_at dksX1_draw_0 22 rfl rfl)
theorem dX1_draw_23 : decode cX1_draw 23 = .ok (.ireturn, 1) := dk_172 (dk_at dksX1_draw_0 23 rfl rfl)
abbrev cX1_gives : ByteArray := prog_16_method_10_code
def yX1_gives : MethodName := ⟨RX1, "gives", "(LKindPostman$Letter;)I"⟩
def dkwX1_gives_0 : List UInt8 := [42, 16, 8, 43, 43, 180, 0, 148, 16, 99, 182, 0, 192, 172]
abbrev dktX1_gives_0 : List UInt8 := dkwX1_gives_0 ++ []
theorem dksX1_gives_0 : cX1_gives.data.toList.drop 0 = dktX1_gives_0 := by decide +kernel
theorem dX1_gives_0 : decode cX1_gives 0 = .ok (.aload_n 0, 1) := dk_42 (dk_at dksX1_gives_0 0 rfl rfl)
theorem dX1_gives_1 : decode cX1_gives 1 = .ok (.bipush 8, 2) := dk_16 8 (dk_at dksX1_gives_0 1 rfl rfl)
theorem dX1_gives_3 : decode cX1_gives 3 = .ok (.aload_n 1, 1) := dk_43 (dk_at dksX1_gives_0 3 rfl rfl)
theorem dX1_gives_4 : decode cX1_gives 4 = .ok (.aload_n 1, 1) := dk_43 (dk_at dksX1_gives_0 4 rfl rfl)
theorem dX1_gives_5 : decode cX1_gives 5 = .ok (.getfield 148, 3) := dk_180 0 148 (dk_at dksX1_gives_0 5 rfl rfl)
theorem dX1_gives_8 : decode cX1_gives 8 = .ok (.bipush 99, 2) := dk_16 99 (dk_at dksX1_gives_0 8 rfl rfl)
theorem dX1_gives_10 : decode cX1_gives 10 = .ok (.invokevirtual 192, 3) := dk_182 0 192 (dk_at dksX1_gives_0 10 rfl rfl)
theorem dX1_gives_13 : decode cX1_gives 13 = .ok (.ireturn, 1) := dk_172 (dk_at dksX1_gives_0 13 rfl rfl)
abbrev cX1_does : ByteArray := prog_16_method_13_code
def yX1_does : MethodName := ⟨RX1, "does", "(LKindPostman$Letter;I)V"⟩
def dkwX1_does_7 : List UInt8 := [184, 0, 213, 181, 0, 73, 177]
abbrev dktX1_does_7 : List UInt8 := dkwX1_does_7 ++ []
def dkwX1_does_6 : List UInt8 := [162, 0, 4, 177, 42, 89, 180, 0, 88, 4, 96, 181, 0, 88, 42, 16, 99, 42, 180, 0, 73, 8, 96]
abbrev dktX1_does_6 : List UInt8 := dkwX1_does_6 ++ dktX1_does_7
def dkwX1_does_5 : List UInt8 := [167, 0, 11, 45, 5, 182, 0, 204, 167, 0, 3, 43, 180, 0, 145, 154, 0, 12, 43, 180, 0, 148, 16, 50]
abbrev dktX1_does_5 : List UInt8 := dkwX1_does_5 ++ dktX1_does_6
def dkwX1_does_4 : List UInt8 := [184, 0, 207, 181, 0, 73, 167, 0, 28, 42, 3, 42, 180, 0, 85, 28, 100, 184, 0, 207, 181, 0, 85]
abbrev dktX1_does_4 : List UInt8 := dkwX1_does_4 ++ dktX1_does_5
def dkwX1_does_3 : List UInt8 := [167, 0, 58, 45, 4, 182, 0, 204, 167, 0, 50, 45, 2, 182, 0, 204, 42, 3, 42, 180, 0, 73, 28, 100]
abbrev dktX1_does_3 : List UInt8 := dkwX1_does_3 ++ dktX1_does_4
def dkwX1_does_2 : List UInt8 := [45, 2, 182, 0, 204, 167, 0, 76, 45, 89, 180, 0, 160, 28, 100, 181, 0, 160, 45, 2, 182, 0, 204]
abbrev dktX1_does_2 : List UInt8 := dkwX1_does_2 ++ dktX1_does_3
def dkwX1_does_1 : List UInt8 := [170, 0, 0, 0, 0, 123, 0, 0, 0, 0, 0, 0, 0, 6, 0, 0, 0, 42, 0, 0, 0, 50, 0, 0, 0, 68, 0, 0, 0, 76, 0, 0, 0, 98, 0, 0, 0, 123, 0, 0, 0, 115]
abbrev dktX1_does_1 : List UInt8 := dkwX1_does_1 ++ dktX1_does_2
def dkwX1_does_0 : List UInt8 := [42, 180, 0, 11, 43, 180, 0, 141, 50, 78, 43, 180, 0, 145]
abbrev dktX1_does_0 : List UInt8 := dkwX1_does_0 ++ dktX1_does_1
theorem dksX1_does_0 : cX1_does.data.toList.drop 0 = dktX1_does_0 := by decide +kernel
theorem dksX1_does_1 : cX1_does.data.toList.drop 14 = dktX1_does_1 := dk_seg dksX1_does_0 14 rfl rfl
theorem dksX1_does_2 : cX1_does.data.toList.drop 56 = dktX1_does_2 := dk_seg dksX1_does_1 42 rfl rfl
theorem dksX1_does_3 : cX1_does.data.toList.drop 79 = dktX1_does_3 := dk_seg dksX1_does_2 23 rfl rfl
theorem dksX1_does_4 : cX1_does.data.toList.drop 103 = dktX1_does_4 := dk_seg dksX1_does_3 24 rfl rfl
theorem dksX1_does_5 : cX1_does.data.toList.drop 126 = dktX1_does_5 := dk_seg dksX1_does_4 23 rfl rfl
theorem dksX1_does_6 : cX1_does.data.toList.drop 150 = dktX1_does_6 := dk_seg dksX1_does_5 24 rfl rfl
theorem dksX1_does_7 : cX1_does.data.toList.drop 173 = dktX1_does_7 := dk_seg dksX1_does_6 23 rfl rfl
theorem dX1_does_0 : decode cX1_does 0 = .ok (.aload_n 0, 1) := dk_42 (dk_at dksX1_does_0 0 rfl rfl)
theorem dX1_does_1 : decode cX1_does 1 = .ok (.getfield 11, 3) := dk_180 0 11 (dk_at dksX1_does_0 1 rfl rfl)
theorem dX1_does_4 : decode cX1_does 4 = .ok (.aload_n 1, 1) := dk_43 (dk_at dksX1_does_0 4 rfl rfl)
theorem dX1_does_5 : decode cX1_does 5 = .ok (.getfield 141, 3) := dk_180 0 141 (dk_at dksX1_does_0 5 rfl rfl)
theorem dX1_does_8 : decode cX1_does 8 = .ok (.aaload, 1) := dk_50 (dk_at dksX1_does_0 8 rfl rfl)
theorem dX1_does_9 : decode cX1_does 9 = .ok (.astore_n 3, 1) := dk_78 (dk_at dksX1_does_0 9 rfl rfl)
theorem dX1_does_10 : decode cX1_does 10 = .ok (.aload_n 1, 1) := dk_43 (dk_at dksX1_does_0 10 rfl rfl)
theorem dX1_does_11 : decode cX1_does 11 = .ok (.getfield 145, 3) := dk_180 0 145 (dk_at dksX1_does_0 11 rfl rfl)
theorem dX1_does_14 : decode cX1_does 14 = .ok (.tableswitch 123 0 6 #[42, 50, 68, 76, 98, 123, 115], 42) := by decide +kernel
theorem dX1_does_56 : decode cX1_does 56 = .ok (.aload_n 3, 1) := dk_45 (dk_at dksX1_does_2 0 rfl rfl)
theorem dX1_does_57 : decode cX1_does 57 = .ok (.iconst (-1), 1) := dk_2 (dk_at dksX1_does_2 1 rfl rfl)
theorem dX1_does_58 : decode cX1_does 58 = .ok (.invokevirtual 204, 3) := dk_182 0 204 (dk_at dksX1_does_2 2 rfl rfl)
theorem dX1_does_61 : decode cX1_does 61 = .ok (.goto 76, 3) := dk_167 0 76 (dk_at dksX1_does_2 5 rfl rfl)
theorem dX1_does_64 : decode cX1_does 64 = .ok (.aload_n 3, 1) := dk_45 (dk_at dksX1_does_2 8 rfl rfl)
theorem dX1_does_65 : decode cX1_does 65 = .ok (.dup, 1) := dk_89 (dk_at dksX1_does_2 9 rfl rfl)
theorem dX1_does_66 : decode cX1_does 66 = .ok (.getfield 160, 3) := dk_180 0 160 (dk_at dksX1_does_2 10 rfl rfl)
theorem dX1_does_69 : decode cX1_does 69 = .ok (.iload_n 2, 1) := dk_28 (dk_at dksX1_does_2 13 rfl rfl)
theorem dX1_does_70 : decode cX1_does 70 = .ok (.isub, 1) := dk_100 (dk_at dksX1_does_2 14 rfl rfl)
theorem dX1_does_71 : decode cX1_does 71 = .ok (.putfield 160, 3) := dk_181 0 160 (dk_at dksX1_does_2 15 rfl rfl)
theorem dX1_does_74 : decode cX1_does 74 = .ok (.aload_n 3, 1) := dk_45 (dk_at dksX1_does_2 18 rfl rfl)
theorem dX1_does_75 : decode cX1_does 75 = .ok (.iconst (-1), 1) := dk_2 (dk_at dksX1_does_2 19 rfl rfl)
theorem dX1_does_76 : decode cX1_does 76 = .ok (.invokevirtual 204, 3) := dk_182 0 204 (dk_at dksX1_does_2 20 rfl rfl)
theorem dX1_does_79 : decode cX1_does 79 = .ok (.goto 58, 3) := dk_167 0 58 (dk_at dksX1_does_3 0 rfl rfl)
theorem dX1_does_82 : decode cX1_does 82 = .ok (.aload_n 3, 1) := dk_45 (dk_at dksX1_does_3 3 rfl rfl)
theorem dX1_does_83 : decode cX1_does 83 = .ok (.iconst 1, 1) := dk_4 (dk_at dksX1_does_3 4 rfl rfl)
theorem dX1_does_84 : decode cX1_does 84 = .ok (.invokevirtual 204, 3) := dk_182 0 204 (dk_at dksX1_does_3 5 rfl rfl)
theorem dX1_does_87 : decode cX1_does 87 = .ok (.goto 50, 3) := dk_167 0 50 (dk_at dksX1_does_3 8 rfl rfl)
theorem dX1_does_90 : decode cX1_does 90 = .ok (.aload_n 3, 1) := dk_45 (dk_at dksX1_does_3 11 rfl rfl)
theorem dX1_does_91 : decode cX1_does 91 = .ok (.iconst (-1), 1) := dk_2 (dk_at dksX1_does_3 12 rfl rfl)
theorem dX1_does_92 : decode cX1_does 92 = .ok (.invokevirtual 204, 3) := dk_182 0 204 (dk_at dksX1_does_3 13 rfl rfl)
theorem dX1_does_95 : decode cX1_does 95 = .ok (.aload_n 0, 1) := dk_42 (dk_at dksX1_does_3 16 rfl rfl)
theorem dX1_does_96 : decode cX1_does 96 = .ok (.iconst 0, 1) := dk_3 (dk_at dksX1_does_3 17 rfl rfl)
theorem dX1_does_97 : decode cX1_does 97 = .ok (.aload_n 0, 1) := dk_42 (dk_at dksX1_does_3 18 rfl rfl)
theorem dX1_does_98 : decode cX1_does 98 = .ok (.getfield 73, 3) := dk_180 0 73 (dk_at dksX1_does_3 19 rfl rfl)
theorem dX1_does_101 : decode cX1_does 101 = .ok (.iload_n 2, 1) := dk_28 (dk_at dksX1_does_3 22 rfl rfl)
theorem dX1_does_102 : decode cX1_does 102 = .ok (.isub, 1) := dk_100 (dk_at dksX1_does_3 23 rfl rfl)
theorem dX1_does_103 : decode cX1_does 103 = .ok (.invokestatic 207, 3) := dk_184 0 207 (dk_at dksX1_does_4 0 rfl rfl)
theorem dX1_does_106 : decode cX1_does 106 = .ok (.putfield 73, 3) := dk_181 0 73 (dk_at dksX1_does_4 3 rfl rfl)
theorem dX1_does_109 : decode cX1_does 109 = .ok (.goto 28, 3) := dk_167 0 28 (dk_at dksX1_does_4 6 rfl rfl)
theorem dX1_does_112 : decode cX1_does 112 = .ok (.aload_n 0, 1) := dk_42 (dk_at dksX1_does_4 9 rfl rfl)
theorem dX1_does_113 : decode cX1_does 113 = .ok (.iconst 0, 1) := dk_3 (dk_at dksX1_does_4 10 rfl rfl)
theorem dX1_does_114 : decode cX1_does 114 = .ok (.aload_n 0, 1) := dk_42 (dk_at dksX1_does_4 11 rfl rfl)
theorem dX1_does_115 : decode cX1_does 115 = .ok (.getfield 85, 3) := dk_180 0 85 (dk_at dksX1_does_4 12 rfl rfl)
theorem dX1_does_118 : decode cX1_does 118 = .ok (.iload_n 2, 1) := dk_28 (dk_at dksX1_does_4 15 rfl rfl)
theorem dX1_does_119 : decode cX1_does 119 = .ok (.isub, 1) := dk_100 (dk_at dksX1_does_4 16 rfl rfl)
theorem dX1_does_120 : decode cX1_does 120 = .ok (.invokestatic 207, 3) := dk_184 0 207 (dk_at dksX1_does_4 17 rfl rfl)
theorem dX1_does_123 : decode cX1_does 123 = .ok (.putfield 85, 3) := dk_181 0 85 (dk_at dksX1_does_4 20 rfl rfl)
theorem dX1_does_126 : decode cX1_does 126 = .ok (.goto 11, 3) := dk_167 0 11 (dk_at dksX1_does_5 0 rfl rfl)
theorem dX1_does_129 : decode cX1_does 129 = .ok (.aload_n 3, 1) := dk_45 (dk_at dksX1_does_5 3 rfl rfl)
theorem dX1_does_130 : decode cX1_does 130 = .ok (.iconst 2, 1) := dk_5 (dk_at dksX1_does_5 4 rfl rfl)
theorem dX1_does_131 : decode cX1_does 131 = .ok (.invokevirtual 204, 3) := dk_182 0 204 (dk_at dksX1_does_5 5 rfl rfl)
theorem dX1_does_134 : decode cX1_does 134 = .ok (.goto 3, 3) := dk_167 0 3 (dk_at dksX1_does_5 8 rfl rfl)
theorem dX1_does_137 : decode cX1_does 137 = .ok (.aload_n 1, 1) := dk_43 (dk_at dksX1_does_5 11 rfl rfl)
theorem dX1_does_138 : decode cX1_does 138 = .ok (.getfield 145, 3) := dk_180 0 145 (dk_at dksX1_does_5 12 rfl rfl)
theorem dX1_does_141 : decode cX1_does 141 = .ok (.ifCond .ne 12, 3) := dk_154 0 12 (dk_at dksX1_does_5 15 rfl rfl)
theorem dX1_does_144 : decode cX1_does 144 = .ok (.aload_n 1, 1) := dk_43 (dk_at dksX1_does_5 18 rfl rfl)
theorem dX1_does_145 : decode cX1_does 145 = .ok (.getfield 148, 3) := dk_180 0 148 (dk_at dksX1_does_5 19 rfl rfl)
theorem dX1_does_148 : decode cX1_does 148 = .ok (.bipush 50, 2) := dk_16 50 (dk_at dksX1_does_5 22 rfl rfl)
theorem dX1_does_150 : decode cX1_does 150 = .ok (.if_icmp .ge 4, 3) := dk_162 0 4 (dk_at dksX1_does_6 0 rfl rfl)
theorem dX1_does_153 : decode cX1_does 153 = .ok (.return_, 1) := dk_177 (dk_at dksX1_does_6 3 rfl rfl)
theorem dX1_does_154 : decode cX1_does 154 = .ok (.aload_n 0, 1) := dk_42 (dk_at dksX1_does_6 4 rfl rfl)
theorem dX1_does_155 : decode cX1_does 155 = .ok (.dup, 1) := dk_89 (dk_at dksX1_does_6 5 rfl rfl)
theorem dX1_does_156 : decode cX1_does 156 = .ok (.getfield 88, 3) := dk_180 0 88 (dk_at dksX1_does_6 6 rfl rfl)
theorem dX1_does_159 : decode cX1_does 159 = .ok (.iconst 1, 1) := dk_4 (dk_at dksX1_does_6 9 rfl rfl)
theorem dX1_does_160 : decode cX1_does 160 = .ok (.iadd, 1) := dk_96 (dk_at dksX1_does_6 10 rfl rfl)
theorem dX1_does_161 : decode cX1_does 161 = .ok (.putfield 88, 3) := dk_181 0 88 (dk_at dksX1_does_6 11 rfl rfl)
theorem dX1_does_164 : decode cX1_does 164 = .ok (.aload_n 0, 1) := dk_42 (dk_at dksX1_does_6 14 rfl rfl)
theorem dX1_does_165 : decode cX1_does 165 = .ok (.bipush 99, 2) := dk_16 99 (dk_at dksX1_does_6 15 rfl rfl)
theorem dX1_does_167 : decode cX1_does 167 = .ok (.aload_n 0, 1) := dk_42 (dk_at dksX1_does_6 17 rfl rfl)
theorem dX1_does_168 : decode cX1_does 168 = .ok (.getfield 73, 3) := dk_180 0 73 (dk_at dksX1_does_6 18 rfl rfl)
theorem dX1_does_171 : decode cX1_does 171 = .ok (.iconst 5, 1) := dk_8 (dk_at dksX1_does_6 21 rfl rfl)
theorem dX1_does_172 : decode cX1_does 172 = .ok (.iadd, 1) := dk_96 (dk_at dksX1_does_6 22 rfl rfl)
theorem dX1_does_173 : decode cX1_does 173 = .ok (.invokestatic 213, 3) := dk_184 0 213 (dk_at dksX1_does_7 0 rfl rfl)
theorem dX1_does_176 : decode cX1_does 176 = .ok (.putfield 73, 3) := dk_181 0 73 (dk_at dksX1_does_7 3 rfl rfl)
theorem dX1_does_179 : decode cX1_does 179 = .ok (.return_, 1) := dk_177 (dk_at dksX1_does_7 6 rfl rfl)
abbrev cX1_tires : ByteArray := prog_16_method_11_code
def yX1_tires : MethodName := ⟨RX1, "tires", "(LKindPostman$Letter;)I"⟩
def dkwX1_tires_0 : List UInt8 := [42, 16, 9, 43, 4, 16, 20, 182, 0, 192, 172]
abbrev dktX1_tires_0 : List UInt8 := dkwX1_tires_0 ++ []
theorem dksX1_tires_0 : cX1_tires.data.toList.drop 0 = dktX1_tires_0 := by decide +kernel
theorem dX1_tires_0 : decode cX1_tires 0 = .ok (.aload_n 0, 1) := dk_42 (dk_at dksX1_tires_0 0 rfl rfl)
theorem dX1_tires_1 : decode cX1_tires 1 = .ok (.bipush 9, 2) := dk_16 9 (dk_at dksX1_tires_0 1 rfl rfl)
theorem dX1_tires_3 : decode cX1_tires 3 = .ok (.aload_n 1, 1) := dk_43 (dk_at dksX1_tires_0 3 rfl rfl)
theorem dX1_tires_4 : decode cX1_tires 4 = .ok (.iconst 1, 1) := dk_4 (dk_at dksX1_tires_0 4 rfl rfl)
theorem dX1_tires_5 : decode cX1_tires 5 = .ok (.bipush 20, 2) := dk_16 20 (dk_at dksX1_tires_0 5 rfl rfl)
theorem dX1_tires_7 : decode cX1_tires 7 = .ok (.invokevirtual 192, 3) := dk_182 0 192 (dk_at dksX1_tires_0 7 rfl rfl)
theorem dX1_tires_10 : decode cX1_tires 10 = .ok (.ireturn, 1) := dk_172 (dk_at dksX1_tires_0 10 rfl rfl)
abbrev cX1_passes : ByteArray := prog_16_method_18_code
def yX1_passes : MethodName := ⟨RX1, "passes", "()I"⟩
def dkwX1_passes_6 : List UInt8 := [132, 3, 1, 167, 255, 228, 42, 89, 180, 0, 100, 4, 96, 181, 0, 100, 27, 172]
abbrev dktX1_passes_6 : List UInt8 := dkwX1_passes_6 ++ []
def dkwX1_passes_5 : List UInt8 := [42, 180, 0, 116, 162, 0, 26, 28, 29, 122, 4, 126, 154, 0, 12, 42, 180, 0, 11, 29, 50, 182, 1, 16]
abbrev dktX1_passes_5 : List UInt8 := dkwX1_passes_5 ++ dktX1_passes_6
def dkwX1_passes_4 : List UInt8 := [16, 50, 164, 0, 8, 16, 251, 167, 0, 4, 6, 96, 3, 16, 99, 184, 0, 188, 181, 0, 73, 3, 62, 29]
abbrev dktX1_passes_4 : List UInt8 := dkwX1_passes_4 ++ dktX1_passes_5
def dkwX1_passes_3 : List UInt8 := [16, 99, 42, 180, 0, 85, 8, 96, 184, 0, 213, 181, 0, 85, 42, 42, 180, 0, 73, 42, 180, 0, 85]
abbrev dktX1_passes_3 : List UInt8 := dkwX1_passes_3 ++ dktX1_passes_4
def dkwX1_passes_2 : List UInt8 := [180, 0, 67, 29, 46, 120, 167, 0, 4, 3, 128, 61, 132, 3, 1, 167, 255, 208, 42, 182, 1, 13, 42]
abbrev dktX1_passes_2 : List UInt8 := dkwX1_passes_2 ++ dktX1_passes_3
def dkwX1_passes_1 : List UInt8 := [42, 180, 0, 67, 29, 46, 182, 1, 10, 54, 4, 27, 21, 4, 96, 60, 28, 21, 4, 158, 0, 14, 4, 42]
abbrev dktX1_passes_1 : List UInt8 := dkwX1_passes_1 ++ dktX1_passes_2
def dkwX1_passes_0 : List UInt8 := [42, 3, 181, 0, 94, 42, 182, 1, 7, 3, 60, 3, 61, 3, 62, 29, 42, 180, 0, 119, 162, 0, 46, 42]
abbrev dktX1_passes_0 : List UInt8 := dkwX1_passes_0 ++ dktX1_passes_1
theorem dksX1_passes_0 : cX1_passes.data.toList.drop 0 = dktX1_passes_0 := by decide +kernel
theorem dksX1_passes_1 : cX1_passes.data.toList.drop 24 = dktX1_passes_1 := dk_seg dksX1_passes_0 24 rfl rfl
theorem dksX1_passes_2 : cX1_passes.data.toList.drop 48 = dktX1_passes_2 := dk_seg dksX1_passes_1 24 rfl rfl
theorem dksX1_passes_3 : cX1_passes.data.toList.drop 71 = dktX1_passes_3 := dk_seg dksX1_passes_2 23 rfl rfl
theorem dksX1_passes_4 : cX1_passes.data.toList.drop 94 = dktX1_passes_4 := dk_seg dksX1_passes_3 23 rfl rfl
theorem dksX1_passes_5 : cX1_passes.data.toList.drop 118 = dktX1_passes_5 := dk_seg dksX1_passes_4 24 rfl rfl
theorem dksX1_passes_6 : cX1_passes.data.toList.drop 142 = dktX1_passes_6 := dk_seg dksX1_passes_5 24 rfl rfl
theorem dX1_passes_0 : decode cX1_passes 0 = .ok (.aload_n 0, 1) := dk_42 (dk_at dksX1_passes_0 0 rfl rfl)
theorem dX1_passes_1 : decode cX1_passes 1 = .ok (.iconst 0, 1) := dk_3 (dk_at dksX1_passes_0 1 rfl rfl)
theorem dX1_passes_2 : decode cX1_passes 2 = .ok (.putfield 94, 3) := dk_181 0 94 (dk_at dksX1_passes_0 2 rfl rfl)
theorem dX1_passes_5 : decode cX1_passes 5 = .ok (.aload_n 0, 1) := dk_42 (dk_at dksX1_passes_0 5 rfl rfl)
theorem dX1_passes_6 : decode cX1_passes 6 = .ok (.invokevirtual 263, 3) := dk_182 1 7 (dk_at dksX1_passes_0 6 rfl rfl)
theorem dX1_passes_9 : decode cX1_passes 9 = .ok (.iconst 0, 1) := dk_3 (dk_at dksX1_passes_0 9 rfl rfl)
theorem dX1_passes_10 : decode cX1_passes 10 = .ok (.istore_n 1, 1) := dk_60 (dk_at dksX1_passes_0 10 rfl rfl)
theorem dX1_passes_11 : decode cX1_passes 11 = .ok (.iconst 0, 1) := dk_3 (dk_at dksX1_passes_0 11 rfl rfl)
theorem dX1_passes_12 : decode cX1_passes 12 = .ok (.istore_n 2, 1) := dk_61 (dk_at dksX1_passes_0 12 rfl rfl)
theorem dX1_passes_13 : decode cX1_passes 13 = .ok (.iconst 0, 1) := dk_3 (dk_at dksX1_passes_0 13 rfl rfl)
theorem dX1_passes_14 : decode cX1_passes 14 = .ok (.istore_n 3, 1) := dk_62 (dk_at dksX1_passes_0 14 rfl rfl)
theorem dX1_passes_15 : decode cX1_passes 15 = .ok (.iload_n 3, 1) := dk_29 (dk_at dksX1_passes_0 15 rfl rfl)
theorem dX1_passes_16 : decode cX1_passes 16 = .ok (.aload_n 0, 1) := dk_42 (dk_at dksX1_passes_0 16 rfl rfl)
theorem dX1_passes_17 : decode cX1_passes 17 = .ok (.getfield 119, 3) := dk_180 0 119 (dk_at dksX1_passes_0 17 rfl rfl)
theorem dX1_passes_20 : decode cX1_passes 20 = .ok (.if_icmp .ge 46, 3) := dk_162 0 46 (dk_at dksX1_passes_0 20 rfl rfl)
theorem dX1_passes_23 : decode cX1_passes 23 = .ok (.aload_n 0, 1) := dk_42 (dk_at dksX1_passes_0 23 rfl rfl)
theorem dX1_passes_24 : decode cX1_passes 24 = .ok (.aload_n 0, 1) := dk_42 (dk_at dksX1_passes_1 0 rfl rfl)
theorem dX1_passes_25 : decode cX1_passes 25 = .ok (.getfield 67, 3) := dk_180 0 67 (dk_at dksX1_passes_1 1 rfl rfl)
theorem dX1_passes_28 : decode cX1_passes 28 = .ok (.iload_n 3, 1) := dk_29 (dk_at dksX1_passes_1 4 rfl rfl)
theorem dX1_passes_29 : decode cX1_passes 29 = .ok (.iaload, 1) := dk_46 (dk_at dksX1_passes_1 5 rfl rfl)
theorem dX1_passes_30 : decode cX1_passes 30 = .ok (.invokevirtual 266, 3) := dk_182 1 10 (dk_at dksX1_passes_1 6 rfl rfl)
theorem dX1_passes_33 : decode cX1_passes 33 = .ok (.istore 4, 2) := dk_54 4 (dk_at dksX1_passes_1 9 rfl rfl)
theorem dX1_passes_35 : decode cX1_passes 35 = .ok (.iload_n 1, 1) := dk_27 (dk_at dksX1_passes_1 11 rfl rfl)
theorem dX1_passes_36 : decode cX1_passes 36 = .ok (.iload 4, 2) := dk_21 4 (dk_at dksX1_passes_1 12 rfl rfl)
theorem dX1_passes_38 : decode cX1_passes 38 = .ok (.iadd, 1) := dk_96 (dk_at dksX1_passes_1 14 rfl rfl)
theorem dX1_passes_39 : decode cX1_passes 39 = .ok (.istore_n 1, 1) := dk_60 (dk_at dksX1_passes_1 15 rfl rfl)
theorem dX1_passes_40 : decode cX1_passes 40 = .ok (.iload_n 2, 1) := dk_28 (dk_at dksX1_passes_1 16 rfl rfl)
theorem dX1_passes_41 : decode cX1_passes 41 = .ok (.iload 4, 2) := dk_21 4 (dk_at dksX1_passes_1 17 rfl rfl)
theorem dX1_passes_43 : decode cX1_passes 43 = .ok (.ifCond .le 14, 3) := dk_158 0 14 (dk_at dksX1_passes_1 19 rfl rfl)
theorem dX1_passes_46 : decode cX1_passes 46 = .ok (.iconst 1, 1) := dk_4 (dk_at dksX1_passes_1 22 rfl rfl)
theorem dX1_passes_47 : decode cX1_passes 47 = .ok (.aload_n 0, 1) := dk_42 (dk_at dksX1_passes_1 23 rfl rfl)
theorem dX1_passes_48 : decode cX1_passes 48 = .ok (.getfield 67, 3) := dk_180 0 67 (dk_at dksX1_passes_2 0 rfl rfl)
theorem dX1_passes_51 : decode cX1_passes 51 = .ok (.iload_n 3, 1) := dk_29 (dk_at dksX1_passes_2 3 rfl rfl)
theorem dX1_passes_52 : decode cX1_passes 52 = .ok (.iaload, 1) := dk_46 (dk_at dksX1_passes_2 4 rfl rfl)
theorem dX1_passes_53 : decode cX1_passes 53 = .ok (.ishl, 1) := dk_120 (dk_at dksX1_passes_2 5 rfl rfl)
theorem dX1_passes_54 : decode cX1_passes 54 = .ok (.goto 4, 3) := dk_167 0 4 (dk_at dksX1_passes_2 6 rfl rfl)
theorem dX1_passes_57 : decode cX1_passes 57 = .ok (.iconst 0, 1) := dk_3 (dk_at dksX1_passes_2 9 rfl rfl)
theorem dX1_passes_58 : decode cX1_passes 58 = .ok (.ior, 1) := dk_128 (dk_at dksX1_passes_2 10 rfl rfl)
theorem dX1_passes_59 : decode cX1_passes 59 = .ok (.istore_n 2, 1) := dk_61 (dk_at dksX1_passes_2 11 rfl rfl)
theorem dX1_passes_60 : decode cX1_passes 60 = .ok (.iinc 3 1, 3) := dk_132 3 1 (dk_at dksX1_passes_2 12 rfl rfl)
theorem dX1_passes_63 : decode cX1_passes 63 = .ok (.goto (-48), 3) := dk_167 255 208 (dk_at dksX1_passes_2 15 rfl rfl)
theorem dX1_passes_66 : decode cX1_passes 66 = .ok (.aload_n 0, 1) := dk_42 (dk_at dksX1_passes_2 18 rfl rfl)
theorem dX1_passes_67 : decode cX1_passes 67 = .ok (.invokevirtual 269, 3) := dk_182 1 13 (dk_at dksX1_passes_2 19 rfl rfl)
theorem dX1_passes_70 : decode cX1_passes 70 = .ok (.aload_n 0, 1) := dk_42 (dk_at dksX1_passes_2 22 rfl rfl)
theorem dX1_passes_71 : decode cX1_passes 71 = .ok (.bipush 99, 2) := dk_16 99 (dk_at dksX1_passes_3 0 rfl rfl)
theorem dX1_passes_73 : decode cX1_passes 73 = .ok (.aload_n 0, 1) := dk_42 (dk_at dksX1_passes_3 2 rfl rfl)
theorem dX1_passes_74 : decode cX1_passes 74 = .ok (.getfield 85, 3) := dk_180 0 85 (dk_at dksX1_passes_3 3 rfl rfl)
theorem dX1_passes_77 : decode cX1_passes 77 = .ok (.iconst 5, 1) := dk_8 (dk_at dksX1_passes_3 6 rfl rfl)
theorem dX1_passes_78 : decode cX1_passes 78 = .ok (.iadd, 1) := dk_96 (dk_at dksX1_passes_3 7 rfl rfl)
theorem dX1_passes_79 : decode cX1_passes 79 = .ok (.invokestatic 213, 3) := dk_184 0 213 (dk_at dksX1_passes_3 8 rfl rfl)
theorem dX1_passes_82 : decode cX1_passes 82 = .ok (.putfield 85, 3) := dk_181 0 85 (dk_at dksX1_passes_3 11 rfl rfl)
theorem dX1_passes_85 : decode cX1_passes 85 = .ok (.aload_n 0, 1) := dk_42 (dk_at dksX1_passes_3 14 rfl rfl)
theorem dX1_passes_86 : decode cX1_passes 86 = .ok (.aload_n 0, 1) := dk_42 (dk_at dksX1_passes_3 15 rfl rfl)
theorem dX1_passes_87 : decode cX1_passes 87 = .ok (.getfield 73, 3) := dk_180 0 73 (dk_at dksX1_passes_3 16 rfl rfl)
theorem dX1_passes_90 : decode cX1_passes 90 = .ok (.aload_n 0, 1) := dk_42 (dk_at dksX1_passes_3 19 rfl rfl)
theorem dX1_passes_91 : decode cX1_passes 91 = .ok (.getfield 85, 3) := dk_180 0 85 (dk_at dksX1_passes_3 20 rfl rfl)
theorem dX1_passes_94 : decode cX1_passes 94 = .ok (.bipush 50, 2) := dk_16 50 (dk_at dksX1_passes_4 0 rfl rfl)
theorem dX1_passes_96 : decode cX1_passes 96 = .ok (.if_icmp .le 8, 3) := dk_164 0 8 (dk_at dksX1_passes_4 2 rfl rfl)
theorem dX1_passes_99 : decode cX1_passes 99 = .ok (.bipush (-5), 2) := dk_16 251 (dk_at dksX1_passes_4 5 rfl rfl)
theorem dX1_passes_101 : decode cX1_passes 101 = .ok (.goto 4, 3) := dk_167 0 4 (dk_at dksX1_passes_4 7 rfl rfl)
theorem dX1_passes_104 : decode cX1_passes 104 = .ok (.iconst 3, 1) := dk_6 (dk_at dksX1_passes_4 10 rfl rfl)
theorem dX1_passes_105 : decode cX1_passes 105 = .ok (.iadd, 1) := dk_96 (dk_at dksX1_passes_4 11 rfl rfl)
theorem dX1_passes_106 : decode cX1_passes 106 = .ok (.iconst 0, 1) := dk_3 (dk_at dksX1_passes_4 12 rfl rfl)
theorem dX1_passes_107 : decode cX1_passes 107 = .ok (.bipush 99, 2) := dk_16 99 (dk_at dksX1_passes_4 13 rfl rfl)
theorem dX1_passes_109 : decode cX1_passes 109 = .ok (.invokestatic 188, 3) := dk_184 0 188 (dk_at dksX1_passes_4 15 rfl rfl)
theorem dX1_passes_112 : decode cX1_passes 112 = .ok (.putfield 73, 3) := dk_181 0 73 (dk_at dksX1_passes_4 18 rfl rfl)
theorem dX1_passes_115 : decode cX1_passes 115 = .ok (.iconst 0, 1) := dk_3 (dk_at dksX1_passes_4 21 rfl rfl)
theorem dX1_passes_116 : decode cX1_passes 116 = .ok (.istore_n 3, 1) := dk_62 (dk_at dksX1_passes_4 22 rfl rfl)
theorem dX1_passes_117 : decode cX1_passes 117 = .ok (.iload_n 3, 1) := dk_29 (dk_at dksX1_passes_4 23 rfl rfl)
theorem dX1_passes_118 : decode cX1_passes 118 = .ok (.aload_n 0, 1) := dk_42 (dk_at dksX1_passes_5 0 rfl rfl)
theorem dX1_passes_119 : decode cX1_passes 119 = .ok (.getfield 116, 3) := dk_180 0 116 (dk_at dksX1_passes_5 1 rfl rfl)
theorem dX1_passes_122 : decode cX1_passes 122 = .ok (.if_icmp .ge 26, 3) := dk_162 0 26 (dk_at dksX1_passes_5 4 rfl rfl)
theorem dX1_passes_125 : decode cX1_passes 125 = .ok (.iload_n 2, 1) := dk_28 (dk_at dksX1_passes_5 7 rfl rfl)
theorem dX1_passes_126 : decode cX1_passes 126 = .ok (.iload_n 3, 1) := dk_29 (dk_at dksX1_passes_5 8 rfl rfl)
theorem dX1_passes_127 : decode cX1_passes 127 = .ok (.ishr, 1) := dk_122 (dk_at dksX1_passes_5 9 rfl rfl)
theorem dX1_passes_128 : decode cX1_passes 128 = .ok (.iconst 1, 1) := dk_4 (dk_at dksX1_passes_5 10 rfl rfl)
theorem dX1_passes_129 : decode cX1_passes 129 = .ok (.iand, 1) := dk_126 (dk_at dksX1_passes_5 11 rfl rfl)
theorem dX1_passes_130 : decode cX1_passes 130 = .ok (.ifCond .ne 12, 3) := dk_154 0 12 (dk_at dksX1_passes_5 12 rfl rfl)
theorem dX1_passes_133 : decode cX1_passes 133 = .ok (.aload_n 0, 1) := dk_42 (dk_at dksX1_passes_5 15 rfl rfl)
theorem dX1_passes_134 : decode cX1_passes 134 = .ok (.getfield 11, 3) := dk_180 0 11 (dk_at dksX1_passes_5 16 rfl rfl)
theorem dX1_passes_137 : decode cX1_passes 137 = .ok (.iload_n 3, 1) := dk_29 (dk_at dksX1_passes_5 19 rfl rfl)
theorem dX1_passes_138 : decode cX1_passes 138 = .ok (.aaload, 1) := dk_50 (dk_at dksX1_passes_5 20 rfl rfl)
theorem dX1_passes_139 : decode cX1_passes 139 = .ok (.invokevirtual 272, 3) := dk_182 1 16 (dk_at dksX1_passes_5 21 rfl rfl)
theorem dX1_passes_142 : decode cX1_passes 142 = .ok (.iinc 3 1, 3) := dk_132 3 1 (dk_at dksX1_passes_6 0 rfl rfl)
theorem dX1_passes_145 : decode cX1_passes 145 = .ok (.goto (-28), 3) := dk_167 255 228 (dk_at dksX1_passes_6 3 rfl rfl)
theorem dX1_passes_148 : decode cX1_passes 148 = .ok (.aload_n 0, 1) := dk_42 (dk_at dksX1_passes_6 6 rfl rfl)
theorem dX1_passes_149 : decode cX1_passes 149 = .ok (.dup, 1) := dk_89 (dk_at dksX1_passes_6 7 rfl rfl)
theorem dX1_passes_150 : decode cX1_passes 150 = .ok (.getfield 100, 3) := dk_180 0 100 (dk_at dksX1_passes_6 8 rfl rfl)
theorem dX1_passes_153 : decode cX1_passes 153 = .ok (.iconst 1, 1) := dk_4 (dk_at dksX1_passes_6 11 rfl rfl)
theorem dX1_passes_154 : decode cX1_passes 154 = .ok (.iadd, 1) := dk_96 (dk_at dksX1_passes_6 12 rfl rfl)
theorem dX1_passes_155 : decode cX1_passes 155 = .ok (.putfield 100, 3) := dk_181 0 100 (dk_at dksX1_passes_6 13 rfl rfl)
theorem dX1_passes_158 : decode cX1_passes 158 = .ok (.iload_n 1, 1) := dk_27 (dk_at dksX1_passes_6 16 rfl rfl)
theorem dX1_passes_159 : decode cX1_passes 159 = .ok (.ireturn, 1) := dk_172 (dk_at dksX1_passes_6 17 rfl rfl)
abbrev cX1_isPosted : ByteArray := prog_16_method_15_code
def yX1_isPosted : MethodName := ⟨RX1, "isPosted", "()V"⟩
def dkwX1_isPosted_3 : List UInt8 := [2, 44, 180, 0, 250, 182, 0, 200, 132, 1, 1, 167, 255, 177, 177]
abbrev dktX1_isPosted_3 : List UInt8 := dkwX1_isPosted_3 ++ []
def dkwX1_isPosted_2 : List UInt8 := [180, 0, 252, 182, 0, 253, 153, 0, 6, 167, 0, 23, 42, 89, 180, 0, 91, 4, 96, 181, 0, 91, 42, 6]
abbrev dktX1_isPosted_2 : List UInt8 := dkwX1_isPosted_2 ++ dktX1_isPosted_3
def dkwX1_isPosted_1 : List UInt8 := [77, 44, 180, 0, 249, 42, 180, 0, 100, 160, 0, 45, 42, 44, 180, 0, 250, 44, 180, 0, 251, 44]
abbrev dktX1_isPosted_1 : List UInt8 := dkwX1_isPosted_1 ++ dktX1_isPosted_2
def dkwX1_isPosted_0 : List UInt8 := [3, 60, 27, 42, 180, 0, 64, 182, 0, 163, 162, 0, 74, 42, 180, 0, 64, 27, 182, 0, 167, 192, 0, 247]
abbrev dktX1_isPosted_0 : List UInt8 := dkwX1_isPosted_0 ++ dktX1_isPosted_1
theorem dksX1_isPosted_0 : cX1_isPosted.data.toList.drop 0 = dktX1_isPosted_0 := by decide +kernel
theorem dksX1_isPosted_1 : cX1_isPosted.data.toList.drop 24 = dktX1_isPosted_1 := dk_seg dksX1_isPosted_0 24 rfl rfl
theorem dksX1_isPosted_2 : cX1_isPosted.data.toList.drop 46 = dktX1_isPosted_2 := dk_seg dksX1_isPosted_1 22 rfl rfl
theorem dksX1_isPosted_3 : cX1_isPosted.data.toList.drop 70 = dktX1_isPosted_3 := dk_seg dksX1_isPosted_2 24 rfl rfl
theorem dX1_isPosted_0 : decode cX1_isPosted 0 = .ok (.iconst 0, 1) := dk_3 (dk_at dksX1_isPosted_0 0 rfl rfl)
theorem dX1_isPosted_1 : decode cX1_isPosted 1 = .ok (.istore_n 1, 1) := dk_60 (dk_at dksX1_isPosted_0 1 rfl rfl)
theorem dX1_isPosted_2 : decode cX1_isPosted 2 = .ok (.iload_n 1, 1) := dk_27 (dk_at dksX1_isPosted_0 2 rfl rfl)
theorem dX1_isPosted_3 : decode cX1_isPosted 3 = .ok (.aload_n 0, 1) := dk_42 (dk_at dksX1_isPosted_0 3 rfl rfl)
theorem dX1_isPosted_4 : decode cX1_isPosted 4 = .ok (.getfield 64, 3) := dk_180 0 64 (dk_at dksX1_isPosted_0 4 rfl rfl)
theorem dX1_isPosted_7 : decode cX1_isPosted 7 = .ok (.invokevirtual 163, 3) := dk_182 0 163 (dk_at dksX1_isPosted_0 7 rfl rfl)
theorem dX1_isPosted_10 : decode cX1_isPosted 10 = .ok (.if_icmp .ge 74, 3) := dk_162 0 74 (dk_at dksX1_isPosted_0 10 rfl rfl)
theorem dX1_isPosted_13 : decode cX1_isPosted 13 = .ok (.aload_n 0, 1) := dk_42 (dk_at dksX1_isPosted_0 13 rfl rfl)
theorem dX1_isPosted_14 : decode cX1_isPosted 14 = .ok (.getfield 64, 3) := dk_180 0 64 (dk_at dksX1_isPosted_0 14 rfl rfl)
theorem dX1_isPosted_17 : decode cX1_isPosted 17 = .ok (.iload_n 1, 1) := dk_27 (dk_at dksX1_isPosted_0 17 rfl rfl)
theorem dX1_isPosted_18 : decode cX1_isPosted 18 = .ok (.invokevirtual 167, 3) := dk_182 0 167 (dk_at dksX1_isPosted_0 18 rfl rfl)
theorem dX1_isPosted_21 : decode cX1_isPosted 21 = .ok (.checkcast 247, 3) := dk_192 0 247 (dk_at dksX1_isPosted_0 21 rfl rfl)
theorem dX1_isPosted_24 : decode cX1_isPosted 24 = .ok (.astore_n 2, 1) := dk_77 (dk_at dksX1_isPosted_1 0 rfl rfl)
theorem dX1_isPosted_25 : decode cX1_isPosted 25 = .ok (.aload_n 2, 1) := dk_44 (dk_at dksX1_isPosted_1 1 rfl rfl)
theorem dX1_isPosted_26 : decode cX1_isPosted 26 = .ok (.getfield 249, 3) := dk_180 0 249 (dk_at dksX1_isPosted_1 2 rfl rfl)
theorem dX1_isPosted_29 : decode cX1_isPosted 29 = .ok (.aload_n 0, 1) := dk_42 (dk_at dksX1_isPosted_1 5 rfl rfl)
theorem dX1_isPosted_30 : decode cX1_isPosted 30 = .ok (.getfield 100, 3) := dk_180 0 100 (dk_at dksX1_isPosted_1 6 rfl rfl)
theorem dX1_isPosted_33 : decode cX1_isPosted 33 = .ok (.if_icmp .ne 45, 3) := dk_160 0 45 (dk_at dksX1_isPosted_1 9 rfl rfl)
theorem dX1_isPosted_36 : decode cX1_isPosted 36 = .ok (.aload_n 0, 1) := dk_42 (dk_at dksX1_isPosted_1 12 rfl rfl)
theorem dX1_isPosted_37 : decode cX1_isPosted 37 = .ok (.aload_n 2, 1) := dk_44 (dk_at dksX1_isPosted_1 13 rfl rfl)
theorem dX1_isPosted_38 : decode cX1_isPosted 38 = .ok (.getfield 250, 3) := dk_180 0 250 (dk_at dksX1_isPosted_1 14 rfl rfl)
theorem dX1_isPosted_41 : decode cX1_isPosted 41 = .ok (.aload_n 2, 1) := dk_44 (dk_at dksX1_isPosted_1 17 rfl rfl)
theorem dX1_isPosted_42 : decode cX1_isPosted 42 = .ok (.getfield 251, 3) := dk_180 0 251 (dk_at dksX1_isPosted_1 18 rfl rfl)
theorem dX1_isPosted_45 : decode cX1_isPosted 45 = .ok (.aload_n 2, 1) := dk_44 (dk_at dksX1_isPosted_1 21 rfl rfl)
theorem dX1_isPosted_46 : decode cX1_isPosted 46 = .ok (.getfield 252, 3) := dk_180 0 252 (dk_at dksX1_isPosted_2 0 rfl rfl)
theorem dX1_isPosted_49 : decode cX1_isPosted 49 = .ok (.invokevirtual 253, 3) := dk_182 0 253 (dk_at dksX1_isPosted_2 3 rfl rfl)
theorem dX1_isPosted_52 : decode cX1_isPosted 52 = .ok (.ifCond .eq 6, 3) := dk_153 0 6 (dk_at dksX1_isPosted_2 6 rfl rfl)
theorem dX1_isPosted_55 : decode cX1_isPosted 55 = .ok (.goto 23, 3) := dk_167 0 23 (dk_at dksX1_isPosted_2 9 rfl rfl)
theorem dX1_isPosted_58 : decode cX1_isPosted 58 = .ok (.aload_n 0, 1) := dk_42 (dk_at dksX1_isPosted_2 12 rfl rfl)
theorem dX1_isPosted_59 : decode cX1_isPosted 59 = .ok (.dup, 1) := dk_89 (dk_at dksX1_isPosted_2 13 rfl rfl)
theorem dX1_isPosted_60 : decode cX1_isPosted 60 = .ok (.getfield 91, 3) := dk_180 0 91 (dk_at dksX1_isPosted_2 14 rfl rfl)
theorem dX1_isPosted_63 : decode cX1_isPosted 63 = .ok (.iconst 1, 1) := dk_4 (dk_at dksX1_isPosted_2 17 rfl rfl)
theorem dX1_isPosted_64 : decode cX1_isPosted 64 = .ok (.iadd, 1) := dk_96 (dk_at dksX1_isPosted_2 18 rfl rfl)
theorem dX1_isPosted_65 : decode cX1_isPosted 65 = .ok (.putfield 91, 3) := dk_181 0 91 (dk_at dksX1_isPosted_2 19 rfl rfl)
theorem dX1_isPosted_68 : decode cX1_isPosted 68 = .ok (.aload_n 0, 1) := dk_42 (dk_at dksX1_isPosted_2 22 rfl rfl)
theorem dX1_isPosted_69 : decode cX1_isPosted 69 = .ok (.iconst 3, 1) := dk_6 (dk_at dksX1_isPosted_2 23 rfl rfl)
theorem dX1_isPosted_70 : decode cX1_isPosted 70 = .ok (.iconst (-1), 1) := dk_2 (dk_at dksX1_isPosted_3 0 rfl rfl)
theorem dX1_isPosted_71 : decode cX1_isPosted 71 = .ok (.aload_n 2, 1) := dk_44 (dk_at dksX1_isPosted_3 1 rfl rfl)
theorem dX1_isPosted_72 : decode cX1_isPosted 72 = .ok (.getfield 250, 3) := dk_180 0 250 (dk_at dksX1_isPosted_3 2 rfl rfl)
theorem dX1_isPosted_75 : decode cX1_isPosted 75 = .ok (.invokevirtual 200, 3) := dk_182 0 200 (dk_at dksX1_isPosted_3 5 rfl rfl)
theorem dX1_isPosted_78 : decode cX1_isPosted 78 = .ok (.iinc 1 1, 3) := dk_132 1 1 (dk_at dksX1_isPosted_3 8 rfl rfl)
theorem dX1_isPosted_81 : decode cX1_isPosted 81 = .ok (.goto (-79), 3) := dk_167 255 177 (dk_at dksX1_isPosted_3 11 rfl rfl)
theorem dX1_isPosted_84 : decode cX1_isPosted 84 = .ok (.return_, 1) := dk_177 (dk_at dksX1_isPosted_3 14 rfl rfl)
abbrev cX1_goesTo : ByteArray := prog_16_method_16_code
def yX1_goesTo : MethodName := ⟨RX1, "goesTo", "(I)I"⟩
def dkwX1_goesTo_3 : List UInt8 := [167, 0, 4, 3, 96, 61, 29, 21, 4, 153, 0, 7, 3, 167, 0, 4, 4, 96, 62, 167, 255, 171, 28, 172]
abbrev dktX1_goesTo_3 : List UInt8 := dkwX1_goesTo_3 ++ []
def dkwX1_goesTo_2 : List UInt8 := [29, 182, 1, 4, 2, 159, 0, 7, 4, 167, 0, 4, 3, 54, 4, 28, 21, 4, 153, 0, 7, 4]
abbrev dktX1_goesTo_2 : List UInt8 := dkwX1_goesTo_2 ++ dktX1_goesTo_3
def dkwX1_goesTo_1 : List UInt8 := [180, 0, 141, 27, 160, 0, 32, 42, 180, 0, 94, 16, 24, 162, 0, 23, 42, 180, 0, 73, 158, 0, 16, 42]
abbrev dktX1_goesTo_1 : List UInt8 := dkwX1_goesTo_1 ++ dktX1_goesTo_2
def dkwX1_goesTo_0 : List UInt8 := [3, 61, 3, 62, 29, 42, 180, 0, 20, 180, 1, 1, 162, 0, 80, 42, 180, 0, 20, 180, 0, 216, 29, 50]
abbrev dktX1_goesTo_0 : List UInt8 := dkwX1_goesTo_0 ++ dktX1_goesTo_1
theorem dksX1_goesTo_0 : cX1_goesTo.data.toList.drop 0 = dktX1_goesTo_0 := by decide +kernel
theorem dksX1_goesTo_1 : cX1_goesTo.data.toList.drop 24 = dktX1_goesTo_1 := dk_seg dksX1_goesTo_0 24 rfl rfl
theorem dksX1_goesTo_2 : cX1_goesTo.data.toList.drop 48 = dktX1_goesTo_2 := dk_seg dksX1_goesTo_1 24 rfl rfl
theorem dksX1_goesTo_3 : cX1_goesTo.data.toList.drop 70 = dktX1_goesTo_3 := dk_seg dksX1_goesTo_2 22 rfl rfl
theorem dX1_goesTo_0 : decode cX1_goesTo 0 = .ok (.iconst 0, 1) := dk_3 (dk_at dksX1_goesTo_0 0 rfl rfl)
theorem dX1_goesTo_1 : decode cX1_goesTo 1 = .ok (.istore_n 2, 1) := dk_61 (dk_at dksX1_goesTo_0 1 rfl rfl)
theorem dX1_goesTo_2 : decode cX1_goesTo 2 = .ok (.iconst 0, 1) := dk_3 (dk_at dksX1_goesTo_0 2 rfl rfl)
theorem dX1_goesTo_3 : decode cX1_goesTo 3 = .ok (.istore_n 3, 1) := dk_62 (dk_at dksX1_goesTo_0 3 rfl rfl)
theorem dX1_goesTo_4 : decode cX1_goesTo 4 = .ok (.iload_n 3, 1) := dk_29 (dk_at dksX1_goesTo_0 4 rfl rfl)
theorem dX1_goesTo_5 : decode cX1_goesTo 5 = .ok (.aload_n 0, 1) := dk_42 (dk_at dksX1_goesTo_0 5 rfl rfl)
theorem dX1_goesTo_6 : decode cX1_goesTo 6 = .ok (.getfield 20, 3) := dk_180 0 20 (dk_at dksX1_goesTo_0 6 rfl rfl)
theorem dX1_goesTo_9 : decode cX1_goesTo 9 = .ok (.getfield 257, 3) := dk_180 1 1 (dk_at dksX1_goesTo_0 9 rfl rfl)
theorem dX1_goesTo_12 : decode cX1_goesTo 12 = .ok (.if_icmp .ge 80, 3) := dk_162 0 80 (dk_at dksX1_goesTo_0 12 rfl rfl)
theorem dX1_goesTo_15 : decode cX1_goesTo 15 = .ok (.aload_n 0, 1) := dk_42 (dk_at dksX1_goesTo_0 15 rfl rfl)
theorem dX1_goesTo_16 : decode cX1_goesTo 16 = .ok (.getfield 20, 3) := dk_180 0 20 (dk_at dksX1_goesTo_0 16 rfl rfl)
theorem dX1_goesTo_19 : decode cX1_goesTo 19 = .ok (.getfield 216, 3) := dk_180 0 216 (dk_at dksX1_goesTo_0 19 rfl rfl)
theorem dX1_goesTo_22 : decode cX1_goesTo 22 = .ok (.iload_n 3, 1) := dk_29 (dk_at dksX1_goesTo_0 22 rfl rfl)
theorem dX1_goesTo_23 : decode cX1_goesTo 23 = .ok (.aaload, 1) := dk_50 (dk_at dksX1_goesTo_0 23 rfl rfl)
theorem dX1_goesTo_24 : decode cX1_goesTo 24 = .ok (.getfield 141, 3) := dk_180 0 141 (dk_at dksX1_goesTo_1 0 rfl rfl)
theorem dX1_goesTo_27 : decode cX1_goesTo 27 = .ok (.iload_n 1, 1) := dk_27 (dk_at dksX1_goesTo_1 3 rfl rfl)
theorem dX1_goesTo_28 : decode cX1_goesTo 28 = .ok (.if_icmp .ne 32, 3) := dk_160 0 32 (dk_at dksX1_goesTo_1 4 rfl rfl)
theorem dX1_goesTo_31 : decode cX1_goesTo 31 = .ok (.aload_n 0, 1) := dk_42 (dk_at dksX1_goesTo_1 7 rfl rfl)
theorem dX1_goesTo_32 : decode cX1_goesTo 32 = .ok (.getfield 94, 3) := dk_180 0 94 (dk_at dksX1_goesTo_1 8 rfl rfl)
theorem dX1_goesTo_35 : decode cX1_goesTo 35 = .ok (.bipush 24, 2) := dk_16 24 (dk_at dksX1_goesTo_1 11 rfl rfl)
theorem dX1_goesTo_37 : decode cX1_goesTo 37 = .ok (.if_icmp .ge 23, 3) := dk_162 0 23 (dk_at dksX1_goesTo_1 13 rfl rfl)
theorem dX1_goesTo_40 : decode cX1_goesTo 40 = .ok (.aload_n 0, 1) := dk_42 (dk_at dksX1_goesTo_1 16 rfl rfl)
theorem dX1_goesTo_41 : decode cX1_goesTo 41 = .ok (.getfield 73, 3) := dk_180 0 73 (dk_at dksX1_goesTo_1 17 rfl rfl)
theorem dX1_goesTo_44 : decode cX1_goesTo 44 = .ok (.ifCond .le 16, 3) := dk_158 0 16 (dk_at dksX1_goesTo_1 20 rfl rfl)
theorem dX1_goesTo_47 : decode cX1_goesTo 47 = .ok (.aload_n 0, 1) := dk_42 (dk_at dksX1_goesTo_1 23 rfl rfl)
theorem dX1_goesTo_48 : decode cX1_goesTo 48 = .ok (.iload_n 3, 1) := dk_29 (dk_at dksX1_goesTo_2 0 rfl rfl)
theorem dX1_goesTo_49 : decode cX1_goesTo 49 = .ok (.invokevirtual 260, 3) := dk_182 1 4 (dk_at dksX1_goesTo_2 1 rfl rfl)
theorem dX1_goesTo_52 : decode cX1_goesTo 52 = .ok (.iconst (-1), 1) := dk_2 (dk_at dksX1_goesTo_2 4 rfl rfl)
theorem dX1_goesTo_53 : decode cX1_goesTo 53 = .ok (.if_icmp .eq 7, 3) := dk_159 0 7 (dk_at dksX1_goesTo_2 5 rfl rfl)
theorem dX1_goesTo_56 : decode cX1_goesTo 56 = .ok (.iconst 1, 1) := dk_4 (dk_at dksX1_goesTo_2 8 rfl rfl)
theorem dX1_goesTo_57 : decode cX1_goesTo 57 = .ok (.goto 4, 3) := dk_167 0 4 (dk_at dksX1_goesTo_2 9 rfl rfl)
theorem dX1_goesTo_60 : decode cX1_goesTo 60 = .ok (.iconst 0, 1) := dk_3 (dk_at dksX1_goesTo_2 12 rfl rfl)
theorem dX1_goesTo_61 : decode cX1_goesTo 61 = .ok (.istore 4, 2) := dk_54 4 (dk_at dksX1_goesTo_2 13 rfl rfl)
theorem dX1_goesTo_63 : decode cX1_goesTo 63 = .ok (.iload_n 2, 1) := dk_28 (dk_at dksX1_goesTo_2 15 rfl rfl)
theorem dX1_goesTo_64 : decode cX1_goesTo 64 = .ok (.iload 4, 2) := dk_21 4 (dk_at dksX1_goesTo_2 16 rfl rfl)
theorem dX1_goesTo_66 : decode cX1_goesTo 66 = .ok (.ifCond .eq 7, 3) := dk_153 0 7 (dk_at dksX1_goesTo_2 18 rfl rfl)
theorem dX1_goesTo_69 : decode cX1_goesTo 69 = .ok (.iconst 1, 1) := dk_4 (dk_at dksX1_goesTo_2 21 rfl rfl)
theorem dX1_goesTo_70 : decode cX1_goesTo 70 = .ok (.goto 4, 3) := dk_167 0 4 (dk_at dksX1_goesTo_3 0 rfl rfl)
theorem dX1_goesTo_73 : decode cX1_goesTo 73 = .ok (.iconst 0, 1) := dk_3 (dk_at dksX1_goesTo_3 3 rfl rfl)
theorem dX1_goesTo_74 : decode cX1_goesTo 74 = .ok (.iadd, 1) := dk_96 (dk_at dksX1_goesTo_3 4 rfl rfl)
theorem dX1_goesTo_75 : decode cX1_goesTo 75 = .ok (.istore_n 2, 1) := dk_61 (dk_at dksX1_goesTo_3 5 rfl rfl)
theorem dX1_goesTo_76 : decode cX1_goesTo 76 = .ok (.iload_n 3, 1) := dk_29 (dk_at dksX1_goesTo_3 6 rfl rfl)
theorem dX1_goesTo_77 : decode cX1_goesTo 77 = .ok (.iload 4, 2) := dk_21 4 (dk_at dksX1_goesTo_3 7 rfl rfl)
theorem dX1_goesTo_79 : decode cX1_goesTo 79 = .ok (.ifCond .eq 7, 3) := dk_153 0 7 (dk_at dksX1_goesTo_3 9 rfl rfl)
theorem dX1_goesTo_82 : decode cX1_goesTo 82 = .ok (.iconst 0, 1) := dk_3 (dk_at dksX1_goesTo_3 12 rfl rfl)
theorem dX1_goesTo_83 : decode cX1_goesTo 83 = .ok (.goto 4, 3) := dk_167 0 4 (dk_at dksX1_goesTo_3 13 rfl rfl)
theorem dX1_goesTo_86 : decode cX1_goesTo 86 = .ok (.iconst 1, 1) := dk_4 (dk_at dksX1_goesTo_3 16 rfl rfl)
theorem dX1_goesTo_87 : decode cX1_goesTo 87 = .ok (.iadd, 1) := dk_96 (dk_at dksX1_goesTo_3 17 rfl rfl)
theorem dX1_goesTo_88 : decode cX1_goesTo 88 = .ok (.istore_n 3, 1) := dk_62 (dk_at dksX1_goesTo_3 18 rfl rfl)
theorem dX1_goesTo_89 : decode cX1_goesTo 89 = .ok (.goto (-85), 3) := dk_167 255 171 (dk_at dksX1_goesTo_3 19 rfl rfl)
theorem dX1_goesTo_92 : decode cX1_goesTo 92 = .ok (.iload_n 2, 1) := dk_28 (dk_at dksX1_goesTo_3 22 rfl rfl)
theorem dX1_goesTo_93 : decode cX1_goesTo 93 = .ok (.ireturn, 1) := dk_172 (dk_at dksX1_goesTo_3 23 rfl rfl)
abbrev cX1_ages : ByteArray := prog_16_method_17_code
def yX1_ages : MethodName := ⟨RX1, "ages", "()V"⟩
def dkwX1_ages_5 : List UInt8 := [181, 0, 91, 167, 255, 175, 177]
abbrev dktX1_ages_5 : List UInt8 := dkwX1_ages_5 ++ []
def dkwX1_ages_4 : List UInt8 := [27, 50, 180, 0, 141, 182, 0, 200, 42, 180, 0, 20, 27, 182, 0, 244, 42, 89, 180, 0, 91, 4, 96]
abbrev dktX1_ages_4 : List UInt8 := dkwX1_ages_4 ++ dktX1_ages_5
def dkwX1_ages_3 : List UInt8 := [167, 255, 225, 42, 6, 42, 180, 0, 20, 180, 0, 216, 27, 50, 180, 0, 238, 42, 180, 0, 20, 180, 0, 216]
abbrev dktX1_ages_3 : List UInt8 := dkwX1_ages_3 ++ dktX1_ages_4
def dkwX1_ages_2 : List UInt8 := [162, 0, 76, 42, 180, 0, 20, 180, 0, 216, 27, 50, 180, 0, 151, 16, 9, 162, 0, 9, 132, 1, 1]
abbrev dktX1_ages_2 : List UInt8 := dkwX1_ages_2 ++ dktX1_ages_3
def dkwX1_ages_1 : List UInt8 := [180, 0, 151, 4, 96, 181, 0, 151, 132, 1, 255, 167, 255, 231, 3, 60, 27, 42, 180, 0, 20, 180, 1, 1]
abbrev dktX1_ages_1 : List UInt8 := dkwX1_ages_1 ++ dktX1_ages_2
def dkwX1_ages_0 : List UInt8 := [42, 180, 0, 20, 180, 1, 1, 4, 100, 60, 27, 155, 0, 27, 42, 180, 0, 20, 180, 0, 216, 27, 50, 89]
abbrev dktX1_ages_0 : List UInt8 := dkwX1_ages_0 ++ dktX1_ages_1
theorem dksX1_ages_0 : cX1_ages.data.toList.drop 0 = dktX1_ages_0 := by decide +kernel
theorem dksX1_ages_1 : cX1_ages.data.toList.drop 24 = dktX1_ages_1 := dk_seg dksX1_ages_0 24 rfl rfl
theorem dksX1_ages_2 : cX1_ages.data.toList.drop 48 = dktX1_ages_2 := dk_seg dksX1_ages_1 24 rfl rfl
theorem dksX1_ages_3 : cX1_ages.data.toList.drop 71 = dktX1_ages_3 := dk_seg dksX1_ages_2 23 rfl rfl
theorem dksX1_ages_4 : cX1_ages.data.toList.drop 95 = dktX1_ages_4 := dk_seg dksX1_ages_3 24 rfl rfl
theorem dksX1_ages_5 : cX1_ages.data.toList.drop 118 = dktX1_ages_5 := dk_seg dksX1_ages_4 23 rfl rfl
theorem dX1_ages_0 : decode cX1_ages 0 = .ok (.aload_n 0, 1) := dk_42 (dk_at dksX1_ages_0 0 rfl rfl)
theorem dX1_ages_1 : decode cX1_ages 1 = .ok (.getfield 20, 3) := dk_180 0 20 (dk_at dksX1_ages_0 1 rfl rfl)
theorem dX1_ages_4 : decode cX1_ages 4 = .ok (.getfield 257, 3) := dk_180 1 1 (dk_at dksX1_ages_0 4 rfl rfl)
theorem dX1_ages_7 : decode cX1_ages 7 = .ok (.iconst 1, 1) := dk_4 (dk_at dksX1_ages_0 7 rfl rfl)
theorem dX1_ages_8 : decode cX1_ages 8 = .ok (.isub, 1) := dk_100 (dk_at dksX1_ages_0 8 rfl rfl)
theorem dX1_ages_9 : decode cX1_ages 9 = .ok (.istore_n 1, 1) := dk_60 (dk_at dksX1_ages_0 9 rfl rfl)
theorem dX1_ages_10 : decode cX1_ages 10 = .ok (.iload_n 1, 1) := dk_27 (dk_at dksX1_ages_0 10 rfl rfl)
theorem dX1_ages_11 : decode cX1_ages 11 = .ok (.ifCond .lt 27, 3) := dk_155 0 27 (dk_at dksX1_ages_0 11 rfl rfl)
theorem dX1_ages_14 : decode cX1_ages 14 = .ok (.aload_n 0, 1) := dk_42 (dk_at dksX1_ages_0 14 rfl rfl)
theorem dX1_ages_15 : decode cX1_ages 15 = .ok (.getfield 20, 3) := dk_180 0 20 (dk_at dksX1_ages_0 15 rfl rfl)
theorem dX1_ages_18 : decode cX1_ages 18 = .ok (.getfield 216, 3) := dk_180 0 216 (dk_at dksX1_ages_0 18 rfl rfl)
theorem dX1_ages_21 : decode cX1_ages 21 = .ok (.iload_n 1, 1) := dk_27 (dk_at dksX1_ages_0 21 rfl rfl)
theorem dX1_ages_22 : decode cX1_ages 22 = .ok (.aaload, 1) := dk_50 (dk_at dksX1_ages_0 22 rfl rfl)
theorem dX1_ages_23 : decode cX1_ages 23 = .ok (.dup, 1) := dk_89 (dk_at dksX1_ages_0 23 rfl rfl)
theorem dX1_ages_24 : decode cX1_ages 24 = .ok (.getfield 151, 3) := dk_180 0 151 (dk_at dksX1_ages_1 0 rfl rfl)
theorem dX1_ages_27 : decode cX1_ages 27 = .ok (.iconst 1, 1) := dk_4 (dk_at dksX1_ages_1 3 rfl rfl)
theorem dX1_ages_28 : decode cX1_ages 28 = .ok (.iadd, 1) := dk_96 (dk_at dksX1_ages_1 4 rfl rfl)
theorem dX1_ages_29 : decode cX1_ages 29 = .ok (.putfield 151, 3) := dk_181 0 151 (dk_at dksX1_ages_1 5 rfl rfl)
theorem dX1_ages_32 : decode cX1_ages 32 = .ok (.iinc 1 (-1), 3) := dk_132 1 255 (dk_at dksX1_ages_1 8 rfl rfl)
theorem dX1_ages_35 : decode cX1_ages 35 = .ok (.goto (-25), 3) := dk_167 255 231 (dk_at dksX1_ages_1 11 rfl rfl)
theorem dX1_ages_38 : decode cX1_ages 38 = .ok (.iconst 0, 1) := dk_3 (dk_at dksX1_ages_1 14 rfl rfl)
theorem dX1_ages_39 : decode cX1_ages 39 = .ok (.istore_n 1, 1) := dk_60 (dk_at dksX1_ages_1 15 rfl rfl)
theorem dX1_ages_40 : decode cX1_ages 40 = .ok (.iload_n 1, 1) := dk_27 (dk_at dksX1_ages_1 16 rfl rfl)
theorem dX1_ages_41 : decode cX1_ages 41 = .ok (.aload_n 0, 1) := dk_42 (dk_at dksX1_ages_1 17 rfl rfl)
theorem dX1_ages_42 : decode cX1_ages 42 = .ok (.getfield 20, 3) := dk_180 0 20 (dk_at dksX1_ages_1 18 rfl rfl)
theorem dX1_ages_45 : decode cX1_ages 45 = .ok (.getfield 257, 3) := dk_180 1 1 (dk_at dksX1_ages_1 21 rfl rfl)
theorem dX1_ages_48 : decode cX1_ages 48 = .ok (.if_icmp .ge 76, 3) := dk_162 0 76 (dk_at dksX1_ages_2 0 rfl rfl)
theorem dX1_ages_51 : decode cX1_ages 51 = .ok (.aload_n 0, 1) := dk_42 (dk_at dksX1_ages_2 3 rfl rfl)
theorem dX1_ages_52 : decode cX1_ages 52 = .ok (.getfield 20, 3) := dk_180 0 20 (dk_at dksX1_ages_2 4 rfl rfl)
theorem dX1_ages_55 : decode cX1_ages 55 = .ok (.getfield 216, 3) := dk_180 0 216 (dk_at dksX1_ages_2 7 rfl rfl)
theorem dX1_ages_58 : decode cX1_ages 58 = .ok (.iload_n 1, 1) := dk_27 (dk_at dksX1_ages_2 10 rfl rfl)
theorem dX1_ages_59 : decode cX1_ages 59 = .ok (.aaload, 1) := dk_50 (dk_at dksX1_ages_2 11 rfl rfl)
theorem dX1_ages_60 : decode cX1_ages 60 = .ok (.getfield 151, 3) := dk_180 0 151 (dk_at dksX1_ages_2 12 rfl rfl)
theorem dX1_ages_63 : decode cX1_ages 63 = .ok (.bipush 9, 2) := dk_16 9 (dk_at dksX1_ages_2 15 rfl rfl)
theorem dX1_ages_65 : decode cX1_ages 65 = .ok (.if_icmp .ge 9, 3) := dk_162 0 9 (dk_at dksX1_ages_2 17 rfl rfl)
theorem dX1_ages_68 : decode cX1_ages 68 = .ok (.iinc 1 1, 3) := dk_132 1 1 (dk_at dksX1_ages_2 20 rfl rfl)
theorem dX1_ages_71 : decode cX1_ages 71 = .ok (.goto (-31), 3) := dk_167 255 225 (dk_at dksX1_ages_3 0 rfl rfl)
theorem dX1_ages_74 : decode cX1_ages 74 = .ok (.aload_n 0, 1) := dk_42 (dk_at dksX1_ages_3 3 rfl rfl)
theorem dX1_ages_75 : decode cX1_ages 75 = .ok (.iconst 3, 1) := dk_6 (dk_at dksX1_ages_3 4 rfl rfl)
theorem dX1_ages_76 : decode cX1_ages 76 = .ok (.aload_n 0, 1) := dk_42 (dk_at dksX1_ages_3 5 rfl rfl)
theorem dX1_ages_77 : decode cX1_ages 77 = .ok (.getfield 20, 3) := dk_180 0 20 (dk_at dksX1_ages_3 6 rfl rfl)
theorem dX1_ages_80 : decode cX1_ages 80 = .ok (.getfield 216, 3) := dk_180 0 216 (dk_at dksX1_ages_3 9 rfl rfl)
theorem dX1_ages_83 : decode cX1_ages 83 = .ok (.iload_n 1, 1) := dk_27 (dk_at dksX1_ages_3 12 rfl rfl)
theorem dX1_ages_84 : decode cX1_ages 84 = .ok (.aaload, 1) := dk_50 (dk_at dksX1_ages_3 13 rfl rfl)
theorem dX1_ages_85 : decode cX1_ages 85 = .ok (.getfield 238, 3) := dk_180 0 238 (dk_at dksX1_ages_3 14 rfl rfl)
theorem dX1_ages_88 : decode cX1_ages 88 = .ok (.aload_n 0, 1) := dk_42 (dk_at dksX1_ages_3 17 rfl rfl)
theorem dX1_ages_89 : decode cX1_ages 89 = .ok (.getfield 20, 3) := dk_180 0 20 (dk_at dksX1_ages_3 18 rfl rfl)
theorem dX1_ages_92 : decode cX1_ages 92 = .ok (.getfield 216, 3) := dk_180 0 216 (dk_at dksX1_ages_3 21 rfl rfl)
theorem dX1_ages_95 : decode cX1_ages 95 = .ok (.iload_n 1, 1) := dk_27 (dk_at dksX1_ages_4 0 rfl rfl)
theorem dX1_ages_96 : decode cX1_ages 96 = .ok (.aaload, 1) := dk_50 (dk_at dksX1_ages_4 1 rfl rfl)
theorem dX1_ages_97 : decode cX1_ages 97 = .ok (.getfield 141, 3) := dk_180 0 141 (dk_at dksX1_ages_4 2 rfl rfl)
theorem dX1_ages_100 : decode cX1_ages 100 = .ok (.invokevirtual 200, 3) := dk_182 0 200 (dk_at dksX1_ages_4 5 rfl rfl)
theorem dX1_ages_103 : decode cX1_ages 103 = .ok (.aload_n 0, 1) := dk_42 (dk_at dksX1_ages_4 8 rfl rfl)
theorem dX1_ages_104 : decode cX1_ages 104 = .ok (.getfield 20, 3) := dk_180 0 20 (dk_at dksX1_ages_4 9 rfl rfl)
theorem dX1_ages_107 : decode cX1_ages 107 = .ok (.iload_n 1, 1) := dk_27 (dk_at dksX1_ages_4 12 rfl rfl)
theorem dX1_ages_108 : decode cX1_ages 108 = .ok (.invokevirtual 244, 3) := dk_182 0 244 (dk_at dksX1_ages_4 13 rfl rfl)
theorem dX1_ages_111 : decode cX1_ages 111 = .ok (.aload_n 0, 1) := dk_42 (dk_at dksX1_ages_4 16 rfl rfl)
theorem dX1_ages_112 : decode cX1_ages 112 = .ok (.dup, 1) := dk_89 (dk_at dksX1_ages_4 17 rfl rfl)
theorem dX1_ages_113 : decode cX1_ages 113 = .ok (.getfield 91, 3) := dk_180 0 91 (dk_at dksX1_ages_4 18 rfl rfl)
theorem dX1_ages_116 : decode cX1_ages 116 = .ok (.iconst 1, 1) := dk_4 (dk_at dksX1_ages_4 21 rfl rfl)
theorem dX1_ages_117 : decode cX1_ages 117 = .ok (.iadd, 1) := dk_96 (dk_at dksX1_ages_4 22 rfl rfl)
theorem dX1_ages_118 : decode cX1_ages 118 = .ok (.putfield 91, 3) := dk_181 0 91 (dk_at dksX1_ages_5 0 rfl rfl)
theorem dX1_ages_121 : decode cX1_ages 121 = .ok (.goto (-81), 3) := dk_167 255 175 (dk_at dksX1_ages_5 3 rfl rfl)
theorem dX1_ages_124 : decode cX1_ages 124 = .ok (.return_, 1) := dk_177 (dk_at dksX1_ages_5 6 rfl rfl)
abbrev cX1_thinks : ByteArray := prog_16_method_3_code
def yX1_thinks : MethodName := ⟨RX1, "thinks", "(LKindPostman$Walk;)V"⟩
def dkwX1_thinks_2 : List UInt8 := [180, 0, 70, 181, 0, 70, 42, 43, 180, 0, 122, 181, 0, 122, 177]
abbrev dktX1_thinks_2 : List UInt8 := dkwX1_thinks_2 ++ []
def dkwX1_thinks_1 : List UInt8 := [180, 0, 64, 181, 0, 64, 42, 43, 180, 0, 67, 181, 0, 67, 42, 43, 180, 0, 119, 181, 0, 119, 42, 43]
abbrev dktX1_thinks_1 : List UInt8 := dkwX1_thinks_1 ++ dktX1_thinks_2
def dkwX1_thinks_0 : List UInt8 := [42, 43, 182, 0, 112, 42, 43, 180, 0, 116, 181, 0, 116, 42, 43, 180, 0, 60, 181, 0, 60, 42, 43]
abbrev dktX1_thinks_0 : List UInt8 := dkwX1_thinks_0 ++ dktX1_thinks_1
theorem dksX1_thinks_0 : cX1_thinks.data.toList.drop 0 = dktX1_thinks_0 := by decide +kernel
theorem dksX1_thinks_1 : cX1_thinks.data.toList.drop 23 = dktX1_thinks_1 := dk_seg dksX1_thinks_0 23 rfl rfl
theorem dksX1_thinks_2 : cX1_thinks.data.toList.drop 47 = dktX1_thinks_2 := dk_seg dksX1_thinks_1 24 rfl rfl
theorem dX1_thinks_0 : decode cX1_thinks 0 = .ok (.aload_n 0, 1) := dk_42 (dk_at dksX1_thinks_0 0 rfl rfl)
theorem dX1_thinks_1 : decode cX1_thinks 1 = .ok (.aload_n 1, 1) := dk_43 (dk_at dksX1_thinks_0 1 rfl rfl)
theorem dX1_thinks_2 : decode cX1_thinks 2 = .ok (.invokevirtual 112, 3) := dk_182 0 112 (dk_at dksX1_thinks_0 2 rfl rfl)
theorem dX1_thinks_5 : decode cX1_thinks 5 = .ok (.aload_n 0, 1) := dk_42 (dk_at dksX1_thinks_0 5 rfl rfl)
theorem dX1_thinks_6 : decode cX1_thinks 6 = .ok (.aload_n 1, 1) := dk_43 (dk_at dksX1_thinks_0 6 rfl rfl)
theorem dX1_thinks_7 : decode cX1_thinks 7 = .ok (.getfield 116, 3) := dk_180 0 116 (dk_at dksX1_thinks_0 7 rfl rfl)
theorem dX1_thinks_10 : decode cX1_thinks 10 = .ok (.putfield 116, 3) := dk_181 0 116 (dk_at dksX1_thinks_0 10 rfl rfl)
theorem dX1_thinks_13 : decode cX1_thinks 13 = .ok (.aload_n 0, 1) := dk_42 (dk_at dksX1_thinks_0 13 rfl rfl)
theorem dX1_thinks_14 : decode cX1_thinks 14 = .ok (.aload_n 1, 1) := dk_43 (dk_at dksX1_thinks_0 14 rfl rfl)
theorem dX1_thinks_15 : decode cX1_thinks 15 = .ok (.getfield 60, 3) := dk_180 0 60 (dk_at dksX1_thinks_0 15 rfl rfl)
theorem dX1_thinks_18 : decode cX1_thinks 18 = .ok (.putfield 60, 3) := dk_181 0 60 (dk_at dksX1_thinks_0 18 rfl rfl)
theorem dX1_thinks_21 : decode cX1_thinks 21 = .ok (.aload_n 0, 1) := dk_42 (dk_at dksX1_thinks_0 21 rfl rfl)
theorem dX1_thinks_22 : decode cX1_thinks 22 = .ok (.aload_n 1, 1) := dk_43 (dk_at dksX1_thinks_0 22 rfl rfl)
theorem dX1_thinks_23 : decode cX1_thinks 23 = .ok (.getfield 64, 3) := dk_180 0 64 (dk_at dksX1_thinks_1 0 rfl rfl)
theorem dX1_thinks_26 : decode cX1_thinks 26 = .ok (.putfield 64, 3) := dk_181 0 64 (dk_at dksX1_thinks_1 3 rfl rfl)
theorem dX1_thinks_29 : decode cX1_thinks 29 = .ok (.aload_n 0, 1) := dk_42 (dk_at dksX1_thinks_1 6 rfl rfl)
theorem dX1_thinks_30 : decode cX1_thinks 30 = .ok (.aload_n 1, 1) := dk_43 (dk_at dksX1_thinks_1 7 rfl rfl)
theorem dX1_thinks_31 : decode cX1_thinks 31 = .ok (.getfield 67, 3) := dk_180 0 67 (dk_at dksX1_thinks_1 8 rfl rfl)
theorem dX1_thinks_34 : decode cX1_thinks 34 = .ok (.putfield 67, 3) := dk_181 0 67 (dk_at dksX1_thinks_1 11 rfl rfl)
theorem dX1_thinks_37 : decode cX1_thinks 37 = .ok (.aload_n 0, 1) := dk_42 (dk_at dksX1_thinks_1 14 rfl rfl)
theorem dX1_thinks_38 : decode cX1_thinks 38 = .ok (.aload_n 1, 1) := dk_43 (dk_at dksX1_thinks_1 15 rfl rfl)
theorem dX1_thinks_39 : decode cX1_thinks 39 = .ok (.getfield 119, 3) := dk_180 0 119 (dk_at dksX1_thinks_1 16 rfl rfl)
theorem dX1_thinks_42 : decode cX1_thinks 42 = .ok (.putfield 119, 3) := dk_181 0 119 (dk_at dksX1_thinks_1 19 rfl rfl)
theorem dX1_thinks_45 : decode cX1_thinks 45 = .ok (.aload_n 0, 1) := dk_42 (dk_at dksX1_thinks_1 22 rfl rfl)
theorem dX1_thinks_46 : decode cX1_thinks 46 = .ok (.aload_n 1, 1) := dk_43 (dk_at dksX1_thinks_1 23 rfl rfl)
theorem dX1_thinks_47 : decode cX1_thinks 47 = .ok (.getfield 70, 3) := dk_180 0 70 (dk_at dksX1_thinks_2 0 rfl rfl)
theorem dX1_thinks_50 : decode cX1_thinks 50 = .ok (.putfield 70, 3) := dk_181 0 70 (dk_at dksX1_thinks_2 3 rfl rfl)
theorem dX1_thinks_53 : decode cX1_thinks 53 = .ok (.aload_n 0, 1) := dk_42 (dk_at dksX1_thinks_2 6 rfl rfl)
theorem dX1_thinks_54 : decode cX1_thinks 54 = .ok (.aload_n 1, 1) := dk_43 (dk_at dksX1_thinks_2 7 rfl rfl)
theorem dX1_thinks_55 : decode cX1_thinks 55 = .ok (.getfield 122, 3) := dk_180 0 122 (dk_at dksX1_thinks_2 8 rfl rfl)
theorem dX1_thinks_58 : decode cX1_thinks 58 = .ok (.putfield 122, 3) := dk_181 0 122 (dk_at dksX1_thinks_2 11 rfl rfl)
theorem dX1_thinks_61 : decode cX1_thinks 61 = .ok (.return_, 1) := dk_177 (dk_at dksX1_thinks_2 14 rfl rfl)
abbrev cX1_takes : ByteArray := prog_16_method_4_code
def yX1_takes : MethodName := ⟨RX1, "takes", "(LKindPostman$Walk;)V"⟩
def dkwX1_takes_5 : List UInt8 := [180, 0, 51, 182, 0, 128, 42, 180, 0, 54, 43, 180, 0, 54, 182, 0, 128, 177]
abbrev dktX1_takes_5 : List UInt8 := dkwX1_takes_5 ++ []
def dkwX1_takes_4 : List UInt8 := [180, 0, 45, 182, 0, 128, 42, 180, 0, 48, 43, 180, 0, 48, 182, 0, 128, 42, 180, 0, 51, 43]
abbrev dktX1_takes_4 : List UInt8 := dkwX1_takes_4 ++ dktX1_takes_5
def dkwX1_takes_3 : List UInt8 := [46, 79, 132, 2, 1, 167, 255, 232, 42, 180, 0, 41, 43, 180, 0, 41, 182, 0, 128, 42, 180, 0, 45, 43]
abbrev dktX1_takes_3 : List UInt8 := dkwX1_takes_3 ++ dktX1_takes_4
def dkwX1_takes_2 : List UInt8 := [167, 255, 216, 3, 61, 28, 42, 180, 0, 28, 190, 162, 0, 21, 42, 180, 0, 28, 28, 43, 180, 0, 28, 28]
abbrev dktX1_takes_2 : List UInt8 := dkwX1_takes_2 ++ dktX1_takes_3
def dkwX1_takes_1 : List UInt8 := [180, 0, 33, 28, 50, 29, 43, 180, 0, 33, 28, 50, 29, 46, 79, 132, 3, 1, 167, 255, 232, 132, 2, 1]
abbrev dktX1_takes_1 : List UInt8 := dkwX1_takes_1 ++ dktX1_takes_2
def dkwX1_takes_0 : List UInt8 := [42, 43, 182, 0, 125, 3, 61, 28, 42, 180, 0, 109, 162, 0, 38, 3, 62, 29, 7, 162, 0, 25, 42]
abbrev dktX1_takes_0 : List UInt8 := dkwX1_takes_0 ++ dktX1_takes_1
theorem dksX1_takes_0 : cX1_takes.data.toList.drop 0 = dktX1_takes_0 := by decide +kernel
theorem dksX1_takes_1 : cX1_takes.data.toList.drop 23 = dktX1_takes_1 := dk_seg dksX1_takes_0 23 rfl rfl
theorem dksX1_takes_2 : cX1_takes.data.toList.drop 47 = dktX1_takes_2 := dk_seg dksX1_takes_1 24 rfl rfl
theorem dksX1_takes_3 : cX1_takes.data.toList.drop 71 = dktX1_takes_3 := dk_seg dksX1_takes_2 24 rfl rfl
theorem dksX1_takes_4 : cX1_takes.data.toList.drop 95 = dktX1_takes_4 := dk_seg dksX1_takes_3 24 rfl rfl
theorem dksX1_takes_5 : cX1_takes.data.toList.drop 117 = dktX1_takes_5 := dk_seg dksX1_takes_4 22 rfl rfl
theorem dX1_takes_0 : decode cX1_takes 0 = .ok (.aload_n 0, 1) := dk_42 (dk_at dksX1_takes_0 0 rfl rfl)
theorem dX1_takes_1 : decode cX1_takes 1 = .ok (.aload_n 1, 1) := dk_43 (dk_at dksX1_takes_0 1 rfl rfl)
theorem dX1_takes_2 : decode cX1_takes 2 = .ok (.invokevirtual 125, 3) := dk_182 0 125 (dk_at dksX1_takes_0 2 rfl rfl)
theorem dX1_takes_5 : decode cX1_takes 5 = .ok (.iconst 0, 1) := dk_3 (dk_at dksX1_takes_0 5 rfl rfl)
theorem dX1_takes_6 : decode cX1_takes 6 = .ok (.istore_n 2, 1) := dk_61 (dk_at dksX1_takes_0 6 rfl rfl)
theorem dX1_takes_7 : decode cX1_takes 7 = .ok (.iload_n 2, 1) := dk_28 (dk_at dksX1_takes_0 7 rfl rfl)
theorem dX1_takes_8 : decode cX1_takes 8 = .ok (.aload_n 0, 1) := dk_42 (dk_at dksX1_takes_0 8 rfl rfl)
theorem dX1_takes_9 : decode cX1_takes 9 = .ok (.getfield 109, 3) := dk_180 0 109 (dk_at dksX1_takes_0 9 rfl rfl)
theorem dX1_takes_12 : decode cX1_takes 12 = .ok (.if_icmp .ge 38, 3) := dk_162 0 38 (dk_at dksX1_takes_0 12 rfl rfl)
theorem dX1_takes_15 : decode cX1_takes 15 = .ok (.iconst 0, 1) := dk_3 (dk_at dksX1_takes_0 15 rfl rfl)
theorem dX1_takes_16 : decode cX1_takes 16 = .ok (.istore_n 3, 1) := dk_62 (dk_at dksX1_takes_0 16 rfl rfl)
theorem dX1_takes_17 : decode cX1_takes 17 = .ok (.iload_n 3, 1) := dk_29 (dk_at dksX1_takes_0 17 rfl rfl)
theorem dX1_takes_18 : decode cX1_takes 18 = .ok (.iconst 4, 1) := dk_7 (dk_at dksX1_takes_0 18 rfl rfl)
theorem dX1_takes_19 : decode cX1_takes 19 = .ok (.if_icmp .ge 25, 3) := dk_162 0 25 (dk_at dksX1_takes_0 19 rfl rfl)
theorem dX1_takes_22 : decode cX1_takes 22 = .ok (.aload_n 0, 1) := dk_42 (dk_at dksX1_takes_0 22 rfl rfl)
theorem dX1_takes_23 : decode cX1_takes 23 = .ok (.getfield 33, 3) := dk_180 0 33 (dk_at dksX1_takes_1 0 rfl rfl)
theorem dX1_takes_26 : decode cX1_takes 26 = .ok (.iload_n 2, 1) := dk_28 (dk_at dksX1_takes_1 3 rfl rfl)
theorem dX1_takes_27 : decode cX1_takes 27 = .ok (.aaload, 1) := dk_50 (dk_at dksX1_takes_1 4 rfl rfl)
theorem dX1_takes_28 : decode cX1_takes 28 = .ok (.iload_n 3, 1) := dk_29 (dk_at dksX1_takes_1 5 rfl rfl)
theorem dX1_takes_29 : decode cX1_takes 29 = .ok (.aload_n 1, 1) := dk_43 (dk_at dksX1_takes_1 6 rfl rfl)
theorem dX1_takes_30 : decode cX1_takes 30 = .ok (.getfield 33, 3) := dk_180 0 33 (dk_at dksX1_takes_1 7 rfl rfl)
theorem dX1_takes_33 : decode cX1_takes 33 = .ok (.iload_n 2, 1) := dk_28 (dk_at dksX1_takes_1 10 rfl rfl)
theorem dX1_takes_34 : decode cX1_takes 34 = .ok (.aaload, 1) := dk_50 (dk_at dksX1_takes_1 11 rfl rfl)
theorem dX1_takes_35 : decode cX1_takes 35 = .ok (.iload_n 3, 1) := dk_29 (dk_at dksX1_takes_1 12 rfl rfl)
theorem dX1_takes_36 : decode cX1_takes 36 = .ok (.iaload, 1) := dk_46 (dk_at dksX1_takes_1 13 rfl rfl)
theorem dX1_takes_37 : decode cX1_takes 37 = .ok (.iastore, 1) := dk_79 (dk_at dksX1_takes_1 14 rfl rfl)
theorem dX1_takes_38 : decode cX1_takes 38 = .ok (.iinc 3 1, 3) := dk_132 3 1 (dk_at dksX1_takes_1 15 rfl rfl)
theorem dX1_takes_41 : decode cX1_takes 41 = .ok (.goto (-24), 3) := dk_167 255 232 (dk_at dksX1_takes_1 18 rfl rfl)
theorem dX1_takes_44 : decode cX1_takes 44 = .ok (.iinc 2 1, 3) := dk_132 2 1 (dk_at dksX1_takes_1 21 rfl rfl)
theorem dX1_takes_47 : decode cX1_takes 47 = .ok (.goto (-40), 3) := dk_167 255 216 (dk_at dksX1_takes_2 0 rfl rfl)
theorem dX1_takes_50 : decode cX1_takes 50 = .ok (.iconst 0, 1) := dk_3 (dk_at dksX1_takes_2 3 rfl rfl)
theorem dX1_takes_51 : decode cX1_takes 51 = .ok (.istore_n 2, 1) := dk_61 (dk_at dksX1_takes_2 4 rfl rfl)
theorem dX1_takes_52 : decode cX1_takes 52 = .ok (.iload_n 2, 1) := dk_28 (dk_at dksX1_takes_2 5 rfl rfl)
theorem dX1_takes_53 : decode cX1_takes 53 = .ok (.aload_n 0, 1) := dk_42 (dk_at dksX1_takes_2 6 rfl rfl)
theorem dX1_takes_54 : decode cX1_takes 54 = .ok (.getfield 28, 3) := dk_180 0 28 (dk_at dksX1_takes_2 7 rfl rfl)
theorem dX1_takes_57 : decode cX1_takes 57 = .ok (.arraylength, 1) := dk_190 (dk_at dksX1_takes_2 10 rfl rfl)
theorem dX1_takes_58 : decode cX1_takes 58 = .ok (.if_icmp .ge 21, 3) := dk_162 0 21 (dk_at dksX1_takes_2 11 rfl rfl)
theorem dX1_takes_61 : decode cX1_takes 61 = .ok (.aload_n 0, 1) := dk_42 (dk_at dksX1_takes_2 14 rfl rfl)
theorem dX1_takes_62 : decode cX1_takes 62 = .ok (.getfield 28, 3) := dk_180 0 28 (dk_at dksX1_takes_2 15 rfl rfl)
theorem dX1_takes_65 : decode cX1_takes 65 = .ok (.iload_n 2, 1) := dk_28 (dk_at dksX1_takes_2 18 rfl rfl)
theorem dX1_takes_66 : decode cX1_takes 66 = .ok (.aload_n 1, 1) := dk_43 (dk_at dksX1_takes_2 19 rfl rfl)
theorem dX1_takes_67 : decode cX1_takes 67 = .ok (.getfield 28, 3) := dk_180 0 28 (dk_at dksX1_takes_2 20 rfl rfl)
theorem dX1_takes_70 : decode cX1_takes 70 = .ok (.iload_n 2, 1) := dk_28 (dk_at dksX1_takes_2 23 rfl rfl)
theorem dX1_takes_71 : decode cX1_takes 71 = .ok (.iaload, 1) := dk_46 (dk_at dksX1_takes_3 0 rfl rfl)
theorem dX1_takes_72 : decode cX1_takes 72 = .ok (.iastore, 1) := dk_79 (dk_at dksX1_takes_3 1 rfl rfl)
theorem dX1_takes_73 : decode cX1_takes 73 = .ok (.iinc 2 1, 3) := dk_132 2 1 (dk_at dksX1_takes_3 2 rfl rfl)
theorem dX1_takes_76 : decode cX1_takes 76 = .ok (.goto (-24), 3) := dk_167 255 232 (dk_at dksX1_takes_3 5 rfl rfl)
theorem dX1_takes_79 : decode cX1_takes 79 = .ok (.aload_n 0, 1) := dk_42 (dk_at dksX1_takes_3 8 rfl rfl)
theorem dX1_takes_80 : decode cX1_takes 80 = .ok (.getfield 41, 3) := dk_180 0 41 (dk_at dksX1_takes_3 9 rfl rfl)
theorem dX1_takes_83 : decode cX1_takes 83 = .ok (.aload_n 1, 1) := dk_43 (dk_at dksX1_takes_3 12 rfl rfl)
theorem dX1_takes_84 : decode cX1_takes 84 = .ok (.getfield 41, 3) := dk_180 0 41 (dk_at dksX1_takes_3 13 rfl rfl)
theorem dX1_takes_87 : decode cX1_takes 87 = .ok (.invokevirtual 128, 3) := dk_182 0 128 (dk_at dksX1_takes_3 16 rfl rfl)
theorem dX1_takes_90 : decode cX1_takes 90 = .ok (.aload_n 0, 1) := dk_42 (dk_at dksX1_takes_3 19 rfl rfl)
theorem dX1_takes_91 : decode cX1_takes 91 = .ok (.getfield 45, 3) := dk_180 0 45 (dk_at dksX1_takes_3 20 rfl rfl)
theorem dX1_takes_94 : decode cX1_takes 94 = .ok (.aload_n 1, 1) := dk_43 (dk_at dksX1_takes_3 23 rfl rfl)
theorem dX1_takes_95 : decode cX1_takes 95 = .ok (.getfield 45, 3) := dk_180 0 45 (dk_at dksX1_takes_4 0 rfl rfl)
theorem dX1_takes_98 : decode cX1_takes 98 = .ok (.invokevirtual 128, 3) := dk_182 0 128 (dk_at dksX1_takes_4 3 rfl rfl)
theorem dX1_takes_101 : decode cX1_takes 101 = .ok (.aload_n 0, 1) := dk_42 (dk_at dksX1_takes_4 6 rfl rfl)
theorem dX1_takes_102 : decode cX1_takes 102 = .ok (.getfield 48, 3) := dk_180 0 48 (dk_at dksX1_takes_4 7 rfl rfl)
theorem dX1_takes_105 : decode cX1_takes 105 = .ok (.aload_n 1, 1) := dk_43 (dk_at dksX1_takes_4 10 rfl rfl)
theorem dX1_takes_106 : decode cX1_takes 106 = .ok (.getfield 48, 3) := dk_180 0 48 (dk_at dksX1_takes_4 11 rfl rfl)
theorem dX1_takes_109 : decode cX1_takes 109 = .ok (.invokevirtual 128, 3) := dk_182 0 128 (dk_at dksX1_takes_4 14 rfl rfl)
theorem dX1_takes_112 : decode cX1_takes 112 = .ok (.aload_n 0, 1) := dk_42 (dk_at dksX1_takes_4 17 rfl rfl)
theorem dX1_takes_113 : decode cX1_takes 113 = .ok (.getfield 51, 3) := dk_180 0 51 (dk_at dksX1_takes_4 18 rfl rfl)
theorem dX1_takes_116 : decode cX1_takes 116 = .ok (.aload_n 1, 1) := dk_43 (dk_at dksX1_takes_4 21 rfl rfl)
theorem dX1_takes_117 : decode cX1_takes 117 = .ok (.getfield 51, 3) := dk_180 0 51 (dk_at dksX1_takes_5 0 rfl rfl)
theorem dX1_takes_120 : decode cX1_takes 120 = .ok (.invokevirtual 128, 3) := dk_182 0 128 (dk_at dksX1_takes_5 3 rfl rfl)
theorem dX1_takes_123 : decode cX1_takes 123 = .ok (.aload_n 0, 1) := dk_42 (dk_at dksX1_takes_5 6 rfl rfl)
theorem dX1_takes_124 : decode cX1_takes 124 = .ok (.getfield 54, 3) := dk_180 0 54 (dk_at dksX1_takes_5 7 rfl rfl)
theorem dX1_takes_127 : decode cX1_takes 127 = .ok (.aload_n 1, 1) := dk_43 (dk_at dksX1_takes_5 10 rfl rfl)
theorem dX1_takes_128 : decode cX1_takes 128 = .ok (.getfield 54, 3) := dk_180 0 54 (dk_at dksX1_takes_5 11 rfl rfl)
theorem dX1_takes_131 : decode cX1_takes 131 = .ok (.invokevirtual 128, 3) := dk_182 0 128 (dk_at dksX1_takes_5 14 rfl rfl)
theorem dX1_takes_134 : decode cX1_takes 134 = .ok (.return_, 1) := dk_177 (dk_at dksX1_takes_5 17 rfl rfl)
theorem q144 : (Jvm.Cond.initialized "KindPostman$Walk") ∈ lw_all := lw_g (lw_at lw_m1 2 rfl) rfl
theorem q183 : (Jvm.Cond.instantiable "KindPostman$Walk" (29 : Nat)) ∈ lw_all := lw_g (lw_at lw_m1 41 rfl) rfl
theorem q185 : (Jvm.Cond.instanceMethod ({ cls := "KindPostman$Walk", name := "<init>", desc := "()V" } : Jvm.MethodName)) ∈ lw_all := lw_g (lw_at lw_m1 43 rfl) rfl
theorem q186 : (Jvm.Cond.code ({ cls := "KindPostman$Walk", name := "<init>", desc := "()V" } : Jvm.MethodName) prog_16_method_1_code (2 : Nat) (Option.none : Option Jvm.ClassFile.FieldType)) ∈ lw_all := lw_g (lw_at lw_m1 44 rfl) rfl
theorem q187 : (Jvm.Cond.methodLink "KindPostman$Walk" (3 : Nat) ({ cls := "java/lang/Object", name := "<init>", desc := "()V" } : Jvm.MethodName)) ∈ lw_all := lw_g (lw_at lw_m1 45 rfl) rfl
theorem q188 : (Jvm.Cond.classLink "KindPostman$Walk" (9 : Nat) "KindPostman$Door") ∈ lw_all := lw_g (lw_at lw_m1 46 rfl) rfl
theorem q190 : (Jvm.Cond.classLink "KindPostman$Walk" (17 : Nat) "KindPostman$Bag") ∈ lw_all := lw_g (lw_at lw_m1 48 rfl) rfl
theorem q192 : (Jvm.Cond.methodLink "KindPostman$Walk" (19 : Nat) ({ cls := "KindPostman$Bag", name := "<init>", desc := "()V" } : Jvm.MethodName)) ∈ lw_all := lw_g (lw_at lw_m1 50 rfl) rfl
theorem q205 : (Jvm.Cond.fieldLinkNest "KindPostman$Walk" (238 : Nat) "KindPostman$Letter" "number" "I" "KindPostman") ∈ lw_tbl := lw_at lw_m1 63 rfl
theorem q209 : (Jvm.Cond.fieldLinkNest "KindPostman$Walk" (141 : Nat) "KindPostman$Letter" "door" "I" "KindPostman") ∈ lw_tbl := lw_at lw_m1 67 rfl
theorem q212 : (Jvm.Cond.fieldLinkNest "KindPostman$Walk" (145 : Nat) "KindPostman$Letter" "kind" "I" "KindPostman") ∈ lw_tbl := lw_at lw_m1 70 rfl
theorem q215 : (Jvm.Cond.fieldLinkNest "KindPostman$Walk" (148 : Nat) "KindPostman$Letter" "much" "I" "KindPostman") ∈ lw_tbl := lw_at lw_m1 73 rfl
theorem q218 : (Jvm.Cond.fieldLinkNest "KindPostman$Walk" (151 : Nat) "KindPostman$Letter" "age" "I" "KindPostman") ∈ lw_tbl := lw_at lw_m1 76 rfl
theorem q233 : (Jvm.Cond.fieldLinkNest "KindPostman$Walk" (216 : Nat) "KindPostman$Bag" "letter" "[LKindPostman$Letter;" "KindPostman") ∈ lw_tbl := lw_at lw_m1 91 rfl
theorem q236 : (Jvm.Cond.fieldLinkNest "KindPostman$Walk" (257 : Nat) "KindPostman$Bag" "many" "I" "KindPostman") ∈ lw_tbl := lw_at lw_m1 94 rfl
theorem q243 : (Jvm.Cond.classLink "KindPostman$Walk" (31 : Nat) "[[I") ∈ lw_all := lw_g (lw_at lw_m1 101 rfl) rfl
theorem q245 : (Jvm.Cond.classLink "KindPostman$Walk" (36 : Nat) "KindPostman$Rows") ∈ lw_all := lw_g (lw_at lw_m1 103 rfl) rfl
theorem q247 : (Jvm.Cond.methodLink "KindPostman$Walk" (38 : Nat) ({ cls := "KindPostman$Rows", name := "<init>", desc := "(I)V" } : Jvm.MethodName)) ∈ lw_all := lw_g (lw_at lw_m1 105 rfl) rfl
theorem q262 : (Jvm.Cond.classLink "KindPostman$Walk" (57 : Nat) "java/util/ArrayList") ∈ lw_all := lw_g (lw_at lw_m1 120 rfl) rfl
theorem q264 : (Jvm.Cond.methodLink "KindPostman$Walk" (59 : Nat) ({ cls := "java/util/ArrayList", name := "<init>", desc := "()V" } : Jvm.MethodName)) ∈ lw_all := lw_g (lw_at lw_m1 122 rfl) rfl
theorem q289 : (Jvm.Cond.methodLinkNest "KindPostman$Walk" (77 : Nat) ({ cls := "KindPostman$Door", name := "<init>", desc := "()V" } : Jvm.MethodName) "KindPostman") ∈ lw_tbl := lw_at lw_m1 147 rfl
theorem q294 : (Jvm.Cond.fieldLinkNest "KindPostman$Walk" (154 : Nat) "KindPostman$Door" "face" "I" "KindPostman") ∈ lw_tbl := lw_at lw_m1 152 rfl
theorem q297 : (Jvm.Cond.fieldLinkNest "KindPostman$Walk" (157 : Nat) "KindPostman$Door" "love" "I" "KindPostman") ∈ lw_tbl := lw_at lw_m1 155 rfl
theorem q300 : (Jvm.Cond.fieldLinkNest "KindPostman$Walk" (160 : Nat) "KindPostman$Door" "purse" "I" "KindPostman") ∈ lw_tbl := lw_at lw_m1 158 rfl
theorem q303 : (Jvm.Cond.fieldLinkNest "KindPostman$Walk" (235 : Nat) "KindPostman$Door" "got" "I" "KindPostman") ∈ lw_tbl := lw_at lw_m1 161 rfl
theorem q314 : (Jvm.Cond.fieldLink "KindPostman$Walk" (11 : Nat) "KindPostman$Walk" "door" "[LKindPostman$Door;") ∈ lw_all := lw_g (lw_at lw_m1 172 rfl) rfl
theorem q316 : (Jvm.Cond.fieldLink "KindPostman$Walk" (20 : Nat) "KindPostman$Walk" "bag" "LKindPostman$Bag;") ∈ lw_all := lw_g (lw_at lw_m1 174 rfl) rfl
theorem q318 : (Jvm.Cond.fieldLink "KindPostman$Walk" (24 : Nat) "KindPostman$Walk" "given" "[I") ∈ lw_all := lw_g (lw_at lw_m1 176 rfl) rfl
theorem q320 : (Jvm.Cond.fieldLink "KindPostman$Walk" (28 : Nat) "KindPostman$Walk" "has" "[I") ∈ lw_all := lw_g (lw_at lw_m1 178 rfl) rfl
theorem q322 : (Jvm.Cond.fieldLink "KindPostman$Walk" (33 : Nat) "KindPostman$Walk" "book" "[[I") ∈ lw_all := lw_g (lw_at lw_m1 180 rfl) rfl
theorem q324 : (Jvm.Cond.fieldLink "KindPostman$Walk" (41 : Nat) "KindPostman$Walk" "blows" "LKindPostman$Rows;") ∈ lw_all := lw_g (lw_at lw_m1 182 rfl) rfl
theorem q326 : (Jvm.Cond.fieldLink "KindPostman$Walk" (45 : Nat) "KindPostman$Walk" "owed" "LKindPostman$Rows;") ∈ lw_all := lw_g (lw_at lw_m1 184 rfl) rfl
theorem q328 : (Jvm.Cond.fieldLink "KindPostman$Walk" (48 : Nat) "KindPostman$Walk" "word" "LKindPostman$Rows;") ∈ lw_all := lw_g (lw_at lw_m1 186 rfl) rfl
theorem q330 : (Jvm.Cond.fieldLink "KindPostman$Walk" (51 : Nat) "KindPostman$Walk" "answers" "LKindPostman$Rows;") ∈ lw_all := lw_g (lw_at lw_m1 188 rfl) rfl
theorem q332 : (Jvm.Cond.fieldLink "KindPostman$Walk" (54 : Nat) "KindPostman$Walk" "faces" "LKindPostman$Rows;") ∈ lw_all := lw_g (lw_at lw_m1 190 rfl) rfl
theorem q334 : (Jvm.Cond.fieldLink "KindPostman$Walk" (60 : Nat) "KindPostman$Walk" "law" "Ljava/util/ArrayList;") ∈ lw_all := lw_g (lw_at lw_m1 192 rfl) rfl
theorem q336 : (Jvm.Cond.fieldLink "KindPostman$Walk" (64 : Nat) "KindPostman$Walk" "post" "Ljava/util/ArrayList;") ∈ lw_all := lw_g (lw_at lw_m1 194 rfl) rfl
theorem q338 : (Jvm.Cond.fieldLink "KindPostman$Walk" (67 : Nat) "KindPostman$Walk" "round" "[I") ∈ lw_all := lw_g (lw_at lw_m1 196 rfl) rfl
theorem q340 : (Jvm.Cond.fieldLink "KindPostman$Walk" (70 : Nat) "KindPostman$Walk" "street" "[I") ∈ lw_all := lw_g (lw_at lw_m1 198 rfl) rfl
theorem q342 : (Jvm.Cond.fieldLink "KindPostman$Walk" (116 : Nat) "KindPostman$Walk" "doors" "I") ∈ lw_all := lw_g (lw_at lw_m1 200 rfl) rfl
theorem q345 : (Jvm.Cond.fieldLink "KindPostman$Walk" (73 : Nat) "KindPostman$Walk" "health" "I") ∈ lw_all := lw_g (lw_at lw_m1 203 rfl) rfl
theorem q347 : (Jvm.Cond.fieldLink "KindPostman$Walk" (85 : Nat) "KindPostman$Walk" "hunger" "I") ∈ lw_all := lw_g (lw_at lw_m1 205 rfl) rfl
theorem q349 : (Jvm.Cond.fieldLink "KindPostman$Walk" (88 : Nat) "KindPostman$Walk" "sat" "I") ∈ lw_all := lw_g (lw_at lw_m1 207 rfl) rfl
theorem q351 : (Jvm.Cond.fieldLink "KindPostman$Walk" (91 : Nat) "KindPostman$Walk" "lost" "I") ∈ lw_all := lw_g (lw_at lw_m1 209 rfl) rfl
theorem q353 : (Jvm.Cond.fieldLink "KindPostman$Walk" (94 : Nat) "KindPostman$Walk" "hour" "I") ∈ lw_all := lw_g (lw_at lw_m1 211 rfl) rfl
theorem q355 : (Jvm.Cond.fieldLink "KindPostman$Walk" (97 : Nat) "KindPostman$Walk" "rain" "I") ∈ lw_all := lw_g (lw_at lw_m1 213 rfl) rfl
theorem q357 : (Jvm.Cond.fieldLink "KindPostman$Walk" (100 : Nat) "KindPostman$Walk" "day" "I") ∈ lw_all := lw_g (lw_at lw_m1 215 rfl) rfl
theorem q359 : (Jvm.Cond.fieldLink "KindPostman$Walk" (103 : Nat) "KindPostman$Walk" "numbers" "I") ∈ lw_all := lw_g (lw_at lw_m1 217 rfl) rfl
theorem q361 : (Jvm.Cond.fieldLink "KindPostman$Walk" (106 : Nat) "KindPostman$Walk" "state" "I") ∈ lw_all := lw_g (lw_at lw_m1 219 rfl) rfl
theorem q363 : (Jvm.Cond.fieldLink "KindPostman$Walk" (109 : Nat) "KindPostman$Walk" "lines" "I") ∈ lw_all := lw_g (lw_at lw_m1 221 rfl) rfl
theorem q365 : (Jvm.Cond.fieldLink "KindPostman$Walk" (119 : Nat) "KindPostman$Walk" "rounds" "I") ∈ lw_all := lw_g (lw_at lw_m1 223 rfl) rfl
theorem q367 : (Jvm.Cond.fieldLink "KindPostman$Walk" (122 : Nat) "KindPostman$Walk" "streets" "I") ∈ lw_all := lw_g (lw_at lw_m1 225 rfl) rfl
theorem q370 : (Jvm.Cond.fieldLink "KindPostman$Walk" (133 : Nat) "KindPostman$Walk" "isThought" "Z") ∈ lw_all := lw_g (lw_at lw_m1 228 rfl) rfl
theorem q371 : (Jvm.Cond.fieldLink "KindPostman$Walk" (137 : Nat) "KindPostman$Walk" "asked" "LKindPostman$Letter;") ∈ lw_all := lw_g (lw_at lw_m1 229 rfl) rfl
theorem q372 : (Jvm.Cond.laysFinal "KindPostman$Walk" "KindPostman$Walk" "door" "[LKindPostman$Door;") ∈ lw_all := lw_g (lw_at lw_m1 230 rfl) rfl
theorem q373 : (Jvm.Cond.soleField "KindPostman$Walk" "door") ∈ lw_all := lw_g (lw_at lw_m1 231 rfl) rfl
theorem q374 : (Jvm.Cond.laysFinal "KindPostman$Walk" "KindPostman$Walk" "bag" "LKindPostman$Bag;") ∈ lw_all := lw_g (lw_at lw_m1 232 rfl) rfl
theorem q375 : (Jvm.Cond.soleField "KindPostman$Walk" "bag") ∈ lw_all := lw_g (lw_at lw_m1 233 rfl) rfl
theorem q376 : (Jvm.Cond.laysFinal "KindPostman$Walk" "KindPostman$Walk" "given" "[I") ∈ lw_all := lw_g (lw_at lw_m1 234 rfl) rfl
theorem q377 : (Jvm.Cond.soleField "KindPostman$Walk" "given") ∈ lw_all := lw_g (lw_at lw_m1 235 rfl) rfl
theorem q378 : (Jvm.Cond.laysFinal "KindPostman$Walk" "KindPostman$Walk" "has" "[I") ∈ lw_all := lw_g (lw_at lw_m1 236 rfl) rfl
theorem q379 : (Jvm.Cond.soleField "KindPostman$Walk" "has") ∈ lw_all := lw_g (lw_at lw_m1 237 rfl) rfl
theorem q380 : (Jvm.Cond.laysFinal "KindPostman$Walk" "KindPostman$Walk" "book" "[[I") ∈ lw_all := lw_g (lw_at lw_m1 238 rfl) rfl
theorem q381 : (Jvm.Cond.soleField "KindPostman$Walk" "book") ∈ lw_all := lw_g (lw_at lw_m1 239 rfl) rfl
theorem q382 : (Jvm.Cond.laysFinal "KindPostman$Walk" "KindPostman$Walk" "blows" "LKindPostman$Rows;") ∈ lw_all := lw_g (lw_at lw_m2 0 rfl) rfl
theorem q383 : (Jvm.Cond.soleField "KindPostman$Walk" "blows") ∈ lw_all := lw_g (lw_at lw_m2 1 rfl) rfl
theorem q384 : (Jvm.Cond.laysFinal "KindPostman$Walk" "KindPostman$Walk" "owed" "LKindPostman$Rows;") ∈ lw_all := lw_g (lw_at lw_m2 2 rfl) rfl
theorem q385 : (Jvm.Cond.soleField "KindPostman$Walk" "owed") ∈ lw_all := lw_g (lw_at lw_m2 3 rfl) rfl
theorem q386 : (Jvm.Cond.laysFinal "KindPostman$Walk" "KindPostman$Walk" "word" "LKindPostman$Rows;") ∈ lw_all := lw_g (lw_at lw_m2 4 rfl) rfl
theorem q387 : (Jvm.Cond.soleField "KindPostman$Walk" "word") ∈ lw_all := lw_g (lw_at lw_m2 5 rfl) rfl
theorem q388 : (Jvm.Cond.laysFinal "KindPostman$Walk" "KindPostman$Walk" "answers" "LKindPostman$Rows;") ∈ lw_all := lw_g (lw_at lw_m2 6 rfl) rfl
theorem q389 : (Jvm.Cond.soleField "KindPostman$Walk" "answers") ∈ lw_all := lw_g (lw_at lw_m2 7 rfl) rfl
theorem q390 : (Jvm.Cond.laysFinal "KindPostman$Walk" "KindPostman$Walk" "faces" "LKindPostman$Rows;") ∈ lw_all := lw_g (lw_at lw_m2 8 rfl) rfl
theorem q391 : (Jvm.Cond.soleField "KindPostman$Walk" "faces") ∈ lw_all := lw_g (lw_at lw_m2 9 rfl) rfl
theorem q392 : (Jvm.Cond.lays "KindPostman$Walk" "KindPostman$Walk" "law" "Ljava/util/ArrayList;") ∈ lw_all := lw_g (lw_at lw_m2 10 rfl) rfl
theorem q393 : (Jvm.Cond.soleField "KindPostman$Walk" "law") ∈ lw_all := lw_g (lw_at lw_m2 11 rfl) rfl
theorem q394 : (Jvm.Cond.lays "KindPostman$Walk" "KindPostman$Walk" "post" "Ljava/util/ArrayList;") ∈ lw_all := lw_g (lw_at lw_m2 12 rfl) rfl
theorem q395 : (Jvm.Cond.soleField "KindPostman$Walk" "post") ∈ lw_all := lw_g (lw_at lw_m2 13 rfl) rfl
theorem q396 : (Jvm.Cond.lays "KindPostman$Walk" "KindPostman$Walk" "round" "[I") ∈ lw_all := lw_g (lw_at lw_m2 14 rfl) rfl
theorem q397 : (Jvm.Cond.soleField "KindPostman$Walk" "round") ∈ lw_all := lw_g (lw_at lw_m2 15 rfl) rfl
theorem q398 : (Jvm.Cond.lays "KindPostman$Walk" "KindPostman$Walk" "street" "[I") ∈ lw_all := lw_g (lw_at lw_m2 16 rfl) rfl
theorem q399 : (Jvm.Cond.soleField "KindPostman$Walk" "street") ∈ lw_all := lw_g (lw_at lw_m2 17 rfl) rfl
theorem q400 : (Jvm.Cond.lays "KindPostman$Walk" "KindPostman$Walk" "doors" "I") ∈ lw_all := lw_g (lw_at lw_m2 18 rfl) rfl
theorem q401 : (Jvm.Cond.soleField "KindPostman$Walk" "doors") ∈ lw_all := lw_g (lw_at lw_m2 19 rfl) rfl
theorem q402 : (Jvm.Cond.lays "KindPostman$Walk" "KindPostman$Walk" "health" "I") ∈ lw_all := lw_g (lw_at lw_m2 20 rfl) rfl
theorem q403 : (Jvm.Cond.soleField "KindPostman$Walk" "health") ∈ lw_all := lw_g (lw_at lw_m2 21 rfl) rfl
theorem q404 : (Jvm.Cond.lays "KindPostman$Walk" "KindPostman$Walk" "hunger" "I") ∈ lw_all := lw_g (lw_at lw_m2 22 rfl) rfl
theorem q405 : (Jvm.Cond.soleField "KindPostman$Walk" "hunger") ∈ lw_all := lw_g (lw_at lw_m2 23 rfl) rfl
theorem q406 : (Jvm.Cond.lays "KindPostman$Walk" "KindPostman$Walk" "sat" "I") ∈ lw_all := lw_g (lw_at lw_m2 24 rfl) rfl
theorem q407 : (Jvm.Cond.soleField "KindPostman$Walk" "sat") ∈ lw_all := lw_g (lw_at lw_m2 25 rfl) rfl
theorem q408 : (Jvm.Cond.lays "KindPostman$Walk" "KindPostman$Walk" "lost" "I") ∈ lw_all := lw_g (lw_at lw_m2 26 rfl) rfl
theorem q409 : (Jvm.Cond.soleField "KindPostman$Walk" "lost") ∈ lw_all := lw_g (lw_at lw_m2 27 rfl) rfl
theorem q410 : (Jvm.Cond.lays "KindPostman$Walk" "KindPostman$Walk" "hour" "I") ∈ lw_all := lw_g (lw_at lw_m2 28 rfl) rfl
theorem q411 : (Jvm.Cond.soleField "KindPostman$Walk" "hour") ∈ lw_all := lw_g (lw_at lw_m2 29 rfl) rfl
theorem q412 : (Jvm.Cond.lays "KindPostman$Walk" "KindPostman$Walk" "rain" "I") ∈ lw_all := lw_g (lw_at lw_m2 30 rfl) rfl
theorem q413 : (Jvm.Cond.soleField "KindPostman$Walk" "rain") ∈ lw_all := lw_g (lw_at lw_m2 31 rfl) rfl
theorem q414 : (Jvm.Cond.lays "KindPostman$Walk" "KindPostman$Walk" "day" "I") ∈ lw_all := lw_g (lw_at lw_m2 32 rfl) rfl
theorem q415 : (Jvm.Cond.soleField "KindPostman$Walk" "day") ∈ lw_all := lw_g (lw_at lw_m2 33 rfl) rfl
theorem q416 : (Jvm.Cond.lays "KindPostman$Walk" "KindPostman$Walk" "numbers" "I") ∈ lw_all := lw_g (lw_at lw_m2 34 rfl) rfl
theorem q417 : (Jvm.Cond.soleField "KindPostman$Walk" "numbers") ∈ lw_all := lw_g (lw_at lw_m2 35 rfl) rfl
theorem q418 : (Jvm.Cond.lays "KindPostman$Walk" "KindPostman$Walk" "state" "I") ∈ lw_all := lw_g (lw_at lw_m2 36 rfl) rfl
theorem q419 : (Jvm.Cond.soleField "KindPostman$Walk" "state") ∈ lw_all := lw_g (lw_at lw_m2 37 rfl) rfl
theorem q420 : (Jvm.Cond.lays "KindPostman$Walk" "KindPostman$Walk" "lines" "I") ∈ lw_all := lw_g (lw_at lw_m2 38 rfl) rfl
theorem q421 : (Jvm.Cond.soleField "KindPostman$Walk" "lines") ∈ lw_all := lw_g (lw_at lw_m2 39 rfl) rfl
theorem q422 : (Jvm.Cond.lays "KindPostman$Walk" "KindPostman$Walk" "rounds" "I") ∈ lw_all := lw_g (lw_at lw_m2 40 rfl) rfl
theorem q423 : (Jvm.Cond.soleField "KindPostman$Walk" "rounds") ∈ lw_all := lw_g (lw_at lw_m2 41 rfl) rfl
theorem q424 : (Jvm.Cond.lays "KindPostman$Walk" "KindPostman$Walk" "streets" "I") ∈ lw_all := lw_g (lw_at lw_m2 42 rfl) rfl
theorem q425 : (Jvm.Cond.soleField "KindPostman$Walk" "streets") ∈ lw_all := lw_g (lw_at lw_m2 43 rfl) rfl
theorem q426 : (Jvm.Cond.lays "KindPostman$Walk" "KindPostman$Walk" "isThought" "Z") ∈ lw_all := lw_g (lw_at lw_m2 44 rfl) rfl
theorem q427 : (Jvm.Cond.soleField "KindPostman$Walk" "isThought") ∈ lw_all := lw_g (lw_at lw_m2 45 rfl) rfl
theorem q428 : (Jvm.Cond.lays "KindPostman$Walk" "KindPostman$Walk" "asked" "LKindPostman$Letter;") ∈ lw_all := lw_g (lw_at lw_m2 46 rfl) rfl
theorem q429 : (Jvm.Cond.soleField "KindPostman$Walk" "asked") ∈ lw_all := lw_g (lw_at lw_m2 47 rfl) rfl
theorem q430 : (Jvm.Cond.superclass "KindPostman$Walk" "java/lang/Object") ∈ lw_all := lw_g (lw_at lw_m2 48 rfl) rfl
theorem q834 : (Jvm.Cond.fieldLinkNest "KindPostman$Walk" (173 : Nat) "KindPostman$Line" "word" "I" "KindPostman") ∈ lw_tbl := lw_at lw_m3 212 rfl
theorem q836 : (Jvm.Cond.fieldLinkNest "KindPostman$Walk" (185 : Nat) "KindPostman$Line" "comesTo" "LKindPostman$Term;" "KindPostman") ∈ lw_tbl := lw_at lw_m3 214 rfl
theorem q838 : (Jvm.Cond.fieldLinkNest "KindPostman$Walk" (175 : Nat) "KindPostman$Line" "when" "LKindPostman$Term;" "KindPostman") ∈ lw_tbl := lw_at lw_m3 216 rfl
theorem q891 : (Jvm.Cond.selects "KindPostman$Walk" ({ cls := "java/lang/Object", name := "getClass", desc := "()Ljava/lang/Class;" } : Jvm.MethodName) ({ cls := "java/lang/Object", name := "getClass", desc := "()Ljava/lang/Class;" } : Jvm.MethodName)) ∈ lw_all := lw_g (lw_at lw_m4 29 rfl) rfl
theorem q925 : (Jvm.Cond.fieldLinkNest "KindPostman$Walk" (249 : Nat) "KindPostman$Posting" "day" "I" "KindPostman") ∈ lw_tbl := lw_at lw_m4 63 rfl
theorem q927 : (Jvm.Cond.fieldLinkNest "KindPostman$Walk" (250 : Nat) "KindPostman$Posting" "door" "I" "KindPostman") ∈ lw_tbl := lw_at lw_m4 65 rfl
theorem q929 : (Jvm.Cond.fieldLinkNest "KindPostman$Walk" (251 : Nat) "KindPostman$Posting" "kind" "I" "KindPostman") ∈ lw_tbl := lw_at lw_m4 67 rfl
theorem q931 : (Jvm.Cond.fieldLinkNest "KindPostman$Walk" (252 : Nat) "KindPostman$Posting" "much" "I" "KindPostman") ∈ lw_tbl := lw_at lw_m4 69 rfl
theorem q967 : (Jvm.Cond.instanceMethod ({ cls := "KindPostman$Walk", name := "moves", desc := "(LKindPostman$Walk;)V" } : Jvm.MethodName)) ∈ lw_all := lw_g (lw_at lw_m4 105 rfl) rfl
theorem q968 : (Jvm.Cond.selects "KindPostman$Walk" ({ cls := "KindPostman$Walk", name := "moves", desc := "(LKindPostman$Walk;)V" } : Jvm.MethodName) ({ cls := "KindPostman$Walk", name := "moves", desc := "(LKindPostman$Walk;)V" } : Jvm.MethodName)) ∈ lw_all := lw_g (lw_at lw_m4 106 rfl) rfl
theorem q969 : (Jvm.Cond.code ({ cls := "KindPostman$Walk", name := "moves", desc := "(LKindPostman$Walk;)V" } : Jvm.MethodName) prog_16_method_2_code (3 : Nat) (Option.none : Option Jvm.ClassFile.FieldType)) ∈ lw_all := lw_g (lw_at lw_m4 107 rfl) rfl
theorem q970 : (Jvm.Cond.methodLink "KindPostman$Walk" (78 : Nat) ({ cls := "KindPostman$Door", name := "takes", desc := "(LKindPostman$Door;)V" } : Jvm.MethodName)) ∈ lw_all := lw_g (lw_at lw_m4 108 rfl) rfl
theorem q978 : (Jvm.Cond.methodLink "KindPostman$Walk" (82 : Nat) ({ cls := "KindPostman$Bag", name := "takes", desc := "(LKindPostman$Bag;)V" } : Jvm.MethodName)) ∈ lw_all := lw_g (lw_at lw_m4 116 rfl) rfl
theorem q1027 : (Jvm.Cond.instanceMethod ({ cls := "KindPostman$Walk", name := "posts", desc := "(III)Z" } : Jvm.MethodName)) ∈ lw_all := lw_g (lw_at lw_m4 165 rfl) rfl
theorem q1028 : (Jvm.Cond.selects "KindPostman$Walk" ({ cls := "KindPostman$Walk", name := "posts", desc := "(III)Z" } : Jvm.MethodName) ({ cls := "KindPostman$Walk", name := "posts", desc := "(III)Z" } : Jvm.MethodName)) ∈ lw_all := lw_g (lw_at lw_m4 166 rfl) rfl
theorem q1029 : (Jvm.Cond.code ({ cls := "KindPostman$Walk", name := "posts", desc := "(III)Z" } : Jvm.MethodName) prog_16_method_12_code (4 : Nat) (Option.some Jvm.ClassFile.FieldType.boolean)) ∈ lw_all := lw_g (lw_at lw_m4 167 rfl) rfl
theorem q1030 : (Jvm.Cond.methodLink "KindPostman$Walk" (196 : Nat) ({ cls := "KindPostman$Bag", name := "comes", desc := "(IIII)Z" } : Jvm.MethodName)) ∈ lw_all := lw_g (lw_at lw_m4 168 rfl) rfl
theorem q1035 : (Jvm.Cond.methodLink "KindPostman$Walk" (200 : Nat) ({ cls := "KindPostman$Walk", name := "notes", desc := "(III)V" } : Jvm.MethodName)) ∈ lw_all := lw_g (lw_at lw_m4 173 rfl) rfl
theorem q1036 : (Jvm.Cond.privateMethod ({ cls := "KindPostman$Walk", name := "notes", desc := "(III)V" } : Jvm.MethodName)) ∈ lw_tbl := lw_at lw_m4 174 rfl
theorem q1037 : (Jvm.Cond.instanceMethod ({ cls := "KindPostman$Walk", name := "notes", desc := "(III)V" } : Jvm.MethodName)) ∈ lw_all := lw_g (lw_at lw_m4 175 rfl) rfl
theorem q1038 : (Jvm.Cond.code ({ cls := "KindPostman$Walk", name := "notes", desc := "(III)V" } : Jvm.MethodName) prog_16_method_6_code (5 : Nat) (Option.none : Option Jvm.ClassFile.FieldType)) ∈ lw_all := lw_g (lw_at lw_m4 176 rfl) rfl
theorem q1048 : (Jvm.Cond.instanceMethod ({ cls := "KindPostman$Walk", name := "brings", desc := "(I)I" } : Jvm.MethodName)) ∈ lw_all := lw_g (lw_at lw_m4 186 rfl) rfl
theorem q1049 : (Jvm.Cond.selects "KindPostman$Walk" ({ cls := "KindPostman$Walk", name := "brings", desc := "(I)I" } : Jvm.MethodName) ({ cls := "KindPostman$Walk", name := "brings", desc := "(I)I" } : Jvm.MethodName)) ∈ lw_all := lw_g (lw_at lw_m4 187 rfl) rfl
theorem q1050 : (Jvm.Cond.code ({ cls := "KindPostman$Walk", name := "brings", desc := "(I)I" } : Jvm.MethodName) prog_16_method_14_code (6 : Nat) (Option.some Jvm.ClassFile.FieldType.int)) ∈ lw_all := lw_g (lw_at lw_m4 188 rfl) rfl
theorem q1051 : (Jvm.Cond.methodLink "KindPostman$Walk" (220 : Nat) ({ cls := "KindPostman$Walk", name := "opens", desc := "(LKindPostman$Letter;)I" } : Jvm.MethodName)) ∈ lw_all := lw_g (lw_at lw_m4 189 rfl) rfl
theorem q1052 : (Jvm.Cond.instanceMethod ({ cls := "KindPostman$Walk", name := "opens", desc := "(LKindPostman$Letter;)I" } : Jvm.MethodName)) ∈ lw_all := lw_g (lw_at lw_m4 190 rfl) rfl
theorem q1053 : (Jvm.Cond.selects "KindPostman$Walk" ({ cls := "KindPostman$Walk", name := "opens", desc := "(LKindPostman$Letter;)I" } : Jvm.MethodName) ({ cls := "KindPostman$Walk", name := "opens", desc := "(LKindPostman$Letter;)I" } : Jvm.MethodName)) ∈ lw_all := lw_g (lw_at lw_m4 191 rfl) rfl
theorem q1054 : (Jvm.Cond.code ({ cls := "KindPostman$Walk", name := "opens", desc := "(LKindPostman$Letter;)I" } : Jvm.MethodName) prog_16_method_9_code (2 : Nat) (Option.some Jvm.ClassFile.FieldType.int)) ∈ lw_all := lw_g (lw_at lw_m4 192 rfl) rfl
theorem q1055 : (Jvm.Cond.methodLink "KindPostman$Walk" (192 : Nat) ({ cls := "KindPostman$Walk", name := "tells", desc := "(ILKindPostman$Letter;II)I" } : Jvm.MethodName)) ∈ lw_all := lw_g (lw_at lw_m4 193 rfl) rfl
theorem q1056 : (Jvm.Cond.privateMethod ({ cls := "KindPostman$Walk", name := "tells", desc := "(ILKindPostman$Letter;II)I" } : Jvm.MethodName)) ∈ lw_tbl := lw_at lw_m4 194 rfl
theorem q1057 : (Jvm.Cond.instanceMethod ({ cls := "KindPostman$Walk", name := "tells", desc := "(ILKindPostman$Letter;II)I" } : Jvm.MethodName)) ∈ lw_all := lw_g (lw_at lw_m4 195 rfl) rfl
theorem q1058 : (Jvm.Cond.code ({ cls := "KindPostman$Walk", name := "tells", desc := "(ILKindPostman$Letter;II)I" } : Jvm.MethodName) prog_16_method_8_code (7 : Nat) (Option.some Jvm.ClassFile.FieldType.int)) ∈ lw_all := lw_g (lw_at lw_m4 196 rfl) rfl
theorem q1059 : (Jvm.Cond.methodLink "KindPostman$Walk" (163 : Nat) ({ cls := "java/util/ArrayList", name := "size", desc := "()I" } : Jvm.MethodName)) ∈ lw_all := lw_g (lw_at lw_m4 197 rfl) rfl
theorem q1060 : (Jvm.Cond.methodLink "KindPostman$Walk" (167 : Nat) ({ cls := "java/util/ArrayList", name := "get", desc := "(I)Ljava/lang/Object;" } : Jvm.MethodName)) ∈ lw_all := lw_g (lw_at lw_m4 198 rfl) rfl
theorem q1072 : (Jvm.Cond.classLink "KindPostman$Walk" (171 : Nat) "KindPostman$Line") ∈ lw_all := lw_g (lw_at lw_m4 210 rfl) rfl
theorem q1073 : (Jvm.Cond.methodLink "KindPostman$Walk" (179 : Nat) ({ cls := "KindPostman$Term", name := "of", desc := "(LKindPostman$Asker;)I" } : Jvm.MethodName)) ∈ lw_all := lw_g (lw_at lw_m4 211 rfl) rfl
theorem q1089 : (Jvm.Cond.castable "KindPostman$Walk" "KindPostman$Asker") ∈ lw_tbl := lw_at lw_m4 227 rfl
theorem q1090 : (Jvm.Cond.selects "KindPostman$Walk" ({ cls := "KindPostman$Asker", name := "fact", desc := "(I)I" } : Jvm.MethodName) ({ cls := "KindPostman$Walk", name := "fact", desc := "(I)I" } : Jvm.MethodName)) ∈ lw_all := lw_g (lw_at lw_m4 228 rfl) rfl
theorem q1091 : (Jvm.Cond.unhidden "KindPostman$Walk" "fact" "(I)I") ∈ lw_tbl := lw_at lw_m4 229 rfl
theorem q1092 : (Jvm.Cond.instanceMethod ({ cls := "KindPostman$Walk", name := "fact", desc := "(I)I" } : Jvm.MethodName)) ∈ lw_all := lw_g (lw_at lw_m4 230 rfl) rfl
theorem q1093 : (Jvm.Cond.publicMethod ({ cls := "KindPostman$Walk", name := "fact", desc := "(I)I" } : Jvm.MethodName)) ∈ lw_tbl := lw_at lw_m4 231 rfl
theorem q1094 : (Jvm.Cond.code ({ cls := "KindPostman$Walk", name := "fact", desc := "(I)I" } : Jvm.MethodName) prog_16_method_7_code (3 : Nat) (Option.some Jvm.ClassFile.FieldType.int)) ∈ lw_all := lw_g (lw_at lw_m4 232 rfl) rfl
theorem q1100 : (Jvm.Cond.methodLinkNest "KindPostman$Walk" (188 : Nat) ({ cls := "KindPostman", name := "held", desc := "(III)I" } : Jvm.MethodName) "KindPostman") ∈ lw_tbl := lw_at lw_m4 238 rfl
theorem q1105 : (Jvm.Cond.methodLink "KindPostman$Walk" (224 : Nat) ({ cls := "KindPostman$Walk", name := "draw", desc := "(I)I" } : Jvm.MethodName)) ∈ lw_all := lw_g (lw_at lw_m5 3 rfl) rfl
theorem q1106 : (Jvm.Cond.instanceMethod ({ cls := "KindPostman$Walk", name := "draw", desc := "(I)I" } : Jvm.MethodName)) ∈ lw_all := lw_g (lw_at lw_m5 4 rfl) rfl
theorem q1107 : (Jvm.Cond.selects "KindPostman$Walk" ({ cls := "KindPostman$Walk", name := "draw", desc := "(I)I" } : Jvm.MethodName) ({ cls := "KindPostman$Walk", name := "draw", desc := "(I)I" } : Jvm.MethodName)) ∈ lw_all := lw_g (lw_at lw_m5 5 rfl) rfl
theorem q1108 : (Jvm.Cond.code ({ cls := "KindPostman$Walk", name := "draw", desc := "(I)I" } : Jvm.MethodName) prog_16_method_5_code (2 : Nat) (Option.some Jvm.ClassFile.FieldType.int)) ∈ lw_all := lw_g (lw_at lw_m5 6 rfl) rfl
theorem q1109 : (Jvm.Cond.constant "KindPostman$Walk" (131 : Nat) (1664525 : Int32)) ∈ lw_all := lw_g (lw_at lw_m5 7 rfl) rfl
theorem q1110 : (Jvm.Cond.constant "KindPostman$Walk" (132 : Nat) (1013904223 : Int32)) ∈ lw_all := lw_g (lw_at lw_m5 8 rfl) rfl
theorem q1111 : (Jvm.Cond.methodLink "KindPostman$Walk" (228 : Nat) ({ cls := "KindPostman$Walk", name := "gives", desc := "(LKindPostman$Letter;)I" } : Jvm.MethodName)) ∈ lw_all := lw_g (lw_at lw_m5 9 rfl) rfl
theorem q1112 : (Jvm.Cond.instanceMethod ({ cls := "KindPostman$Walk", name := "gives", desc := "(LKindPostman$Letter;)I" } : Jvm.MethodName)) ∈ lw_all := lw_g (lw_at lw_m5 10 rfl) rfl
theorem q1113 : (Jvm.Cond.selects "KindPostman$Walk" ({ cls := "KindPostman$Walk", name := "gives", desc := "(LKindPostman$Letter;)I" } : Jvm.MethodName) ({ cls := "KindPostman$Walk", name := "gives", desc := "(LKindPostman$Letter;)I" } : Jvm.MethodName)) ∈ lw_all := lw_g (lw_at lw_m5 11 rfl) rfl
theorem q1114 : (Jvm.Cond.code ({ cls := "KindPostman$Walk", name := "gives", desc := "(LKindPostman$Letter;)I" } : Jvm.MethodName) prog_16_method_10_code (2 : Nat) (Option.some Jvm.ClassFile.FieldType.int)) ∈ lw_all := lw_g (lw_at lw_m5 12 rfl) rfl
theorem q1115 : (Jvm.Cond.methodLink "KindPostman$Walk" (213 : Nat) ({ cls := "java/lang/Math", name := "min", desc := "(II)I" } : Jvm.MethodName)) ∈ lw_all := lw_g (lw_at lw_m5 13 rfl) rfl
theorem q1116 : (Jvm.Cond.methodLink "KindPostman$Walk" (231 : Nat) ({ cls := "KindPostman$Walk", name := "does", desc := "(LKindPostman$Letter;I)V" } : Jvm.MethodName)) ∈ lw_all := lw_g (lw_at lw_m5 14 rfl) rfl
theorem q1117 : (Jvm.Cond.privateMethod ({ cls := "KindPostman$Walk", name := "does", desc := "(LKindPostman$Letter;I)V" } : Jvm.MethodName)) ∈ lw_tbl := lw_at lw_m5 15 rfl
theorem q1118 : (Jvm.Cond.instanceMethod ({ cls := "KindPostman$Walk", name := "does", desc := "(LKindPostman$Letter;I)V" } : Jvm.MethodName)) ∈ lw_all := lw_g (lw_at lw_m5 16 rfl) rfl
theorem q1119 : (Jvm.Cond.code ({ cls := "KindPostman$Walk", name := "does", desc := "(LKindPostman$Letter;I)V" } : Jvm.MethodName) prog_16_method_13_code (4 : Nat) (Option.none : Option Jvm.ClassFile.FieldType)) ∈ lw_all := lw_g (lw_at lw_m5 17 rfl) rfl
theorem q1120 : (Jvm.Cond.methodLink "KindPostman$Walk" (204 : Nat) ({ cls := "KindPostman$Door", name := "looks", desc := "(I)V" } : Jvm.MethodName)) ∈ lw_all := lw_g (lw_at lw_m5 18 rfl) rfl
theorem q1125 : (Jvm.Cond.methodLink "KindPostman$Walk" (207 : Nat) ({ cls := "java/lang/Math", name := "max", desc := "(II)I" } : Jvm.MethodName)) ∈ lw_all := lw_g (lw_at lw_m5 23 rfl) rfl
theorem q1126 : (Jvm.Cond.methodLink "KindPostman$Walk" (241 : Nat) ({ cls := "KindPostman$Walk", name := "tires", desc := "(LKindPostman$Letter;)I" } : Jvm.MethodName)) ∈ lw_all := lw_g (lw_at lw_m5 24 rfl) rfl
theorem q1127 : (Jvm.Cond.instanceMethod ({ cls := "KindPostman$Walk", name := "tires", desc := "(LKindPostman$Letter;)I" } : Jvm.MethodName)) ∈ lw_all := lw_g (lw_at lw_m5 25 rfl) rfl
theorem q1128 : (Jvm.Cond.selects "KindPostman$Walk" ({ cls := "KindPostman$Walk", name := "tires", desc := "(LKindPostman$Letter;)I" } : Jvm.MethodName) ({ cls := "KindPostman$Walk", name := "tires", desc := "(LKindPostman$Letter;)I" } : Jvm.MethodName)) ∈ lw_all := lw_g (lw_at lw_m5 26 rfl) rfl
theorem q1129 : (Jvm.Cond.code ({ cls := "KindPostman$Walk", name := "tires", desc := "(LKindPostman$Letter;)I" } : Jvm.MethodName) prog_16_method_11_code (2 : Nat) (Option.some Jvm.ClassFile.FieldType.int)) ∈ lw_all := lw_g (lw_at lw_m5 27 rfl) rfl
theorem q1130 : (Jvm.Cond.methodLink "KindPostman$Walk" (244 : Nat) ({ cls := "KindPostman$Bag", name := "goes", desc := "(I)V" } : Jvm.MethodName)) ∈ lw_all := lw_g (lw_at lw_m5 28 rfl) rfl
theorem q1143 : (Jvm.Cond.instanceMethod ({ cls := "KindPostman$Walk", name := "passes", desc := "()I" } : Jvm.MethodName)) ∈ lw_all := lw_g (lw_at lw_m5 41 rfl) rfl
theorem q1144 : (Jvm.Cond.selects "KindPostman$Walk" ({ cls := "KindPostman$Walk", name := "passes", desc := "()I" } : Jvm.MethodName) ({ cls := "KindPostman$Walk", name := "passes", desc := "()I" } : Jvm.MethodName)) ∈ lw_all := lw_g (lw_at lw_m5 42 rfl) rfl
theorem q1145 : (Jvm.Cond.code ({ cls := "KindPostman$Walk", name := "passes", desc := "()I" } : Jvm.MethodName) prog_16_method_18_code (5 : Nat) (Option.some Jvm.ClassFile.FieldType.int)) ∈ lw_all := lw_g (lw_at lw_m5 43 rfl) rfl
theorem q1146 : (Jvm.Cond.methodLink "KindPostman$Walk" (263 : Nat) ({ cls := "KindPostman$Walk", name := "isPosted", desc := "()V" } : Jvm.MethodName)) ∈ lw_all := lw_g (lw_at lw_m5 44 rfl) rfl
theorem q1147 : (Jvm.Cond.privateMethod ({ cls := "KindPostman$Walk", name := "isPosted", desc := "()V" } : Jvm.MethodName)) ∈ lw_tbl := lw_at lw_m5 45 rfl
theorem q1148 : (Jvm.Cond.instanceMethod ({ cls := "KindPostman$Walk", name := "isPosted", desc := "()V" } : Jvm.MethodName)) ∈ lw_all := lw_g (lw_at lw_m5 46 rfl) rfl
theorem q1149 : (Jvm.Cond.code ({ cls := "KindPostman$Walk", name := "isPosted", desc := "()V" } : Jvm.MethodName) prog_16_method_15_code (3 : Nat) (Option.none : Option Jvm.ClassFile.FieldType)) ∈ lw_all := lw_g (lw_at lw_m5 47 rfl) rfl
theorem q1150 : (Jvm.Cond.classLink "KindPostman$Walk" (247 : Nat) "KindPostman$Posting") ∈ lw_all := lw_g (lw_at lw_m5 48 rfl) rfl
theorem q1151 : (Jvm.Cond.methodLink "KindPostman$Walk" (253 : Nat) ({ cls := "KindPostman$Walk", name := "posts", desc := "(III)Z" } : Jvm.MethodName)) ∈ lw_all := lw_g (lw_at lw_m5 49 rfl) rfl
theorem q1152 : (Jvm.Cond.methodLink "KindPostman$Walk" (266 : Nat) ({ cls := "KindPostman$Walk", name := "goesTo", desc := "(I)I" } : Jvm.MethodName)) ∈ lw_all := lw_g (lw_at lw_m5 50 rfl) rfl
theorem q1153 : (Jvm.Cond.privateMethod ({ cls := "KindPostman$Walk", name := "goesTo", desc := "(I)I" } : Jvm.MethodName)) ∈ lw_tbl := lw_at lw_m5 51 rfl
theorem q1154 : (Jvm.Cond.instanceMethod ({ cls := "KindPostman$Walk", name := "goesTo", desc := "(I)I" } : Jvm.MethodName)) ∈ lw_all := lw_g (lw_at lw_m5 52 rfl) rfl
theorem q1155 : (Jvm.Cond.code ({ cls := "KindPostman$Walk", name := "goesTo", desc := "(I)I" } : Jvm.MethodName) prog_16_method_16_code (5 : Nat) (Option.some Jvm.ClassFile.FieldType.int)) ∈ lw_all := lw_g (lw_at lw_m5 53 rfl) rfl
theorem q1156 : (Jvm.Cond.methodLink "KindPostman$Walk" (260 : Nat) ({ cls := "KindPostman$Walk", name := "brings", desc := "(I)I" } : Jvm.MethodName)) ∈ lw_all := lw_g (lw_at lw_m5 54 rfl) rfl
theorem q1157 : (Jvm.Cond.methodLink "KindPostman$Walk" (269 : Nat) ({ cls := "KindPostman$Walk", name := "ages", desc := "()V" } : Jvm.MethodName)) ∈ lw_all := lw_g (lw_at lw_m5 55 rfl) rfl
theorem q1158 : (Jvm.Cond.privateMethod ({ cls := "KindPostman$Walk", name := "ages", desc := "()V" } : Jvm.MethodName)) ∈ lw_tbl := lw_at lw_m5 56 rfl
theorem q1159 : (Jvm.Cond.instanceMethod ({ cls := "KindPostman$Walk", name := "ages", desc := "()V" } : Jvm.MethodName)) ∈ lw_all := lw_g (lw_at lw_m5 57 rfl) rfl
theorem q1160 : (Jvm.Cond.code ({ cls := "KindPostman$Walk", name := "ages", desc := "()V" } : Jvm.MethodName) prog_16_method_17_code (2 : Nat) (Option.none : Option Jvm.ClassFile.FieldType)) ∈ lw_all := lw_g (lw_at lw_m5 58 rfl) rfl
theorem q1161 : (Jvm.Cond.methodLink "KindPostman$Walk" (272 : Nat) ({ cls := "KindPostman$Door", name := "calms", desc := "()V" } : Jvm.MethodName)) ∈ lw_all := lw_g (lw_at lw_m5 59 rfl) rfl
theorem q1200 : (Jvm.Cond.instanceMethod ({ cls := "KindPostman$Walk", name := "thinks", desc := "(LKindPostman$Walk;)V" } : Jvm.MethodName)) ∈ lw_all := lw_g (lw_at lw_m5 98 rfl) rfl
theorem q1201 : (Jvm.Cond.selects "KindPostman$Walk" ({ cls := "KindPostman$Walk", name := "thinks", desc := "(LKindPostman$Walk;)V" } : Jvm.MethodName) ({ cls := "KindPostman$Walk", name := "thinks", desc := "(LKindPostman$Walk;)V" } : Jvm.MethodName)) ∈ lw_all := lw_g (lw_at lw_m5 99 rfl) rfl
theorem q1202 : (Jvm.Cond.code ({ cls := "KindPostman$Walk", name := "thinks", desc := "(LKindPostman$Walk;)V" } : Jvm.MethodName) prog_16_method_3_code (2 : Nat) (Option.none : Option Jvm.ClassFile.FieldType)) ∈ lw_all := lw_g (lw_at lw_m5 100 rfl) rfl
theorem q1203 : (Jvm.Cond.methodLink "KindPostman$Walk" (112 : Nat) ({ cls := "KindPostman$Walk", name := "moves", desc := "(LKindPostman$Walk;)V" } : Jvm.MethodName)) ∈ lw_all := lw_g (lw_at lw_m5 101 rfl) rfl
theorem q1344 : (Jvm.Cond.instanceMethod ({ cls := "KindPostman$Walk", name := "takes", desc := "(LKindPostman$Walk;)V" } : Jvm.MethodName)) ∈ lw_all := lw_g (lw_at lw_m6 2 rfl) rfl
theorem q1345 : (Jvm.Cond.selects "KindPostman$Walk" ({ cls := "KindPostman$Walk", name := "takes", desc := "(LKindPostman$Walk;)V" } : Jvm.MethodName) ({ cls := "KindPostman$Walk", name := "takes", desc := "(LKindPostman$Walk;)V" } : Jvm.MethodName)) ∈ lw_all := lw_g (lw_at lw_m6 3 rfl) rfl
theorem q1346 : (Jvm.Cond.code ({ cls := "KindPostman$Walk", name := "takes", desc := "(LKindPostman$Walk;)V" } : Jvm.MethodName) prog_16_method_4_code (4 : Nat) (Option.none : Option Jvm.ClassFile.FieldType)) ∈ lw_all := lw_g (lw_at lw_m6 4 rfl) rfl
theorem q1347 : (Jvm.Cond.methodLink "KindPostman$Walk" (125 : Nat) ({ cls := "KindPostman$Walk", name := "thinks", desc := "(LKindPostman$Walk;)V" } : Jvm.MethodName)) ∈ lw_all := lw_g (lw_at lw_m6 5 rfl) rfl
theorem q1348 : (Jvm.Cond.methodLink "KindPostman$Walk" (128 : Nat) ({ cls := "KindPostman$Rows", name := "takes", desc := "(LKindPostman$Rows;)V" } : Jvm.MethodName)) ∈ lw_all := lw_g (lw_at lw_m6 6 rfl) rfl
theorem q2076 : (Jvm.Cond.castable "KindPostman$Walk" "java/lang/Object") ∈ lw_tbl := lw_at lw_m9 14 rfl
theorem in_X1 : ∀ w ∈ wsX10, w ∈ lw_all := lw_in wsX10 [372, 374, 376, 378, 380, 382, 384, 386, 388, 390, 392, 394, 396, 398, 400, 402, 404, 406, 408, 410, 412, 414, 416, 418, 420, 422, 424, 426, 428] (by decide +kernel) (by decide +kernel)
/-! KindPostman$Bag -/
set_option maxRecDepth 100000
def RX2 : String := "KindPostman$Bag"
def TX2 : u_T := fun k => match k with
  | 0 => ("KindPostman$Bag", "letter", "[LKindPostman$Letter;", true)
  | _ => ("KindPostman$Bag", "many", "I", false)
def tyX2 : Nat → FieldType := fun k => match k with
  | 0 => .array (.object "KindPostman$Letter")
  | _ => .int
abbrev wsX20 : List Cond := u_ws RX2 TX2 2
theorem nmX2 : ∀ a, a < 2 → ∀ b, b < 2 → a ≠ b → (TX2 a).2.1 ≠ (TX2 b).2.1 := by decide +kernel
theorem tyX2_ok : ∀ k, k < 2 → parseFieldDescriptor (TX2 k).2.2.1 = some (tyX2 k) := by decide +kernel
abbrev cX2_init : ByteArray := prog_3_method_1_code
def yX2_init : MethodName := ⟨RX2, "<init>", "()V"⟩
def dkwX2_init_1 : List UInt8 := [180, 0, 11, 27, 187, 0, 9, 89, 183, 0, 17, 83, 132, 1, 1, 167, 255, 234, 177]
abbrev dktX2_init_1 : List UInt8 := dkwX2_init_1 ++ []
def dkwX2_init_0 : List UInt8 := [42, 183, 0, 3, 42, 16, 24, 189, 0, 9, 181, 0, 11, 3, 60, 27, 16, 24, 162, 0, 22, 42]
abbrev dktX2_init_0 : List UInt8 := dkwX2_init_0 ++ dktX2_init_1
theorem dksX2_init_0 : cX2_init.data.toList.drop 0 = dktX2_init_0 := by decide +kernel
theorem dksX2_init_1 : cX2_init.data.toList.drop 22 = dktX2_init_1 := dk_seg dksX2_init_0 22 rfl rfl
theorem dX2_init_0 : decode cX2_init 0 = .ok (.aload_n 0, 1) := dk_42 (dk_at dksX2_init_0 0 rfl rfl)
theorem dX2_init_1 : decode cX2_init 1 = .ok (.invokespecial 3, 3) := dk_183 0 3 (dk_at dksX2_init_0 1 rfl rfl)
theorem dX2_init_4 : decode cX2_init 4 = .ok (.aload_n 0, 1) := dk_42 (dk_at dksX2_init_0 4 rfl rfl)
theorem dX2_init_5 : decode cX2_init 5 = .ok (.bipush 24, 2) := dk_16 24 (dk_at dksX2_init_0 5 rfl rfl)
theorem dX2_init_7 : decode cX2_init 7 = .ok (.anewarray 9, 3) := dk_189 0 9 (dk_at dksX2_init_0 7 rfl rfl)
theorem dX2_init_10 : decode cX2_init 10 = .ok (.putfield 11, 3) := dk_181 0 11 (dk_at dksX2_init_0 10 rfl rfl)
theorem dX2_init_13 : decode cX2_init 13 = .ok (.iconst 0, 1) := dk_3 (dk_at dksX2_init_0 13 rfl rfl)
theorem dX2_init_14 : decode cX2_init 14 = .ok (.istore_n 1, 1) := dk_60 (dk_at dksX2_init_0 14 rfl rfl)
theorem dX2_init_15 : decode cX2_init 15 = .ok (.iload_n 1, 1) := dk_27 (dk_at dksX2_init_0 15 rfl rfl)
theorem dX2_init_16 : decode cX2_init 16 = .ok (.bipush 24, 2) := dk_16 24 (dk_at dksX2_init_0 16 rfl rfl)
theorem dX2_init_18 : decode cX2_init 18 = .ok (.if_icmp .ge 22, 3) := dk_162 0 22 (dk_at dksX2_init_0 18 rfl rfl)
theorem dX2_init_21 : decode cX2_init 21 = .ok (.aload_n 0, 1) := dk_42 (dk_at dksX2_init_0 21 rfl rfl)
theorem dX2_init_22 : decode cX2_init 22 = .ok (.getfield 11, 3) := dk_180 0 11 (dk_at dksX2_init_1 0 rfl rfl)
theorem dX2_init_25 : decode cX2_init 25 = .ok (.iload_n 1, 1) := dk_27 (dk_at dksX2_init_1 3 rfl rfl)
theorem dX2_init_26 : decode cX2_init 26 = .ok (.new 9, 3) := dk_187 0 9 (dk_at dksX2_init_1 4 rfl rfl)
theorem dX2_init_29 : decode cX2_init 29 = .ok (.dup, 1) := dk_89 (dk_at dksX2_init_1 7 rfl rfl)
theorem dX2_init_30 : decode cX2_init 30 = .ok (.invokespecial 17, 3) := dk_183 0 17 (dk_at dksX2_init_1 8 rfl rfl)
theorem dX2_init_33 : decode cX2_init 33 = .ok (.aastore, 1) := dk_83 (dk_at dksX2_init_1 11 rfl rfl)
theorem dX2_init_34 : decode cX2_init 34 = .ok (.iinc 1 1, 3) := dk_132 1 1 (dk_at dksX2_init_1 12 rfl rfl)
theorem dX2_init_37 : decode cX2_init 37 = .ok (.goto (-22), 3) := dk_167 255 234 (dk_at dksX2_init_1 15 rfl rfl)
theorem dX2_init_40 : decode cX2_init 40 = .ok (.return_, 1) := dk_177 (dk_at dksX2_init_1 18 rfl rfl)
abbrev cX2_takes : ByteArray := prog_3_method_6_code
def yX2_takes : MethodName := ⟨RX2, "takes", "(LKindPostman$Bag;)V"⟩
def dkwX2_takes_1 : List UInt8 := [43, 180, 0, 11, 28, 50, 182, 0, 32, 132, 2, 1, 167, 255, 230, 177]
abbrev dktX2_takes_1 : List UInt8 := dkwX2_takes_1 ++ []
def dkwX2_takes_0 : List UInt8 := [42, 43, 180, 0, 18, 181, 0, 18, 3, 61, 28, 42, 180, 0, 18, 162, 0, 24, 42, 180, 0, 11, 28, 50]
abbrev dktX2_takes_0 : List UInt8 := dkwX2_takes_0 ++ dktX2_takes_1
theorem dksX2_takes_0 : cX2_takes.data.toList.drop 0 = dktX2_takes_0 := by decide +kernel
theorem dksX2_takes_1 : cX2_takes.data.toList.drop 24 = dktX2_takes_1 := dk_seg dksX2_takes_0 24 rfl rfl
theorem dX2_takes_0 : decode cX2_takes 0 = .ok (.aload_n 0, 1) := dk_42 (dk_at dksX2_takes_0 0 rfl rfl)
theorem dX2_takes_1 : decode cX2_takes 1 = .ok (.aload_n 1, 1) := dk_43 (dk_at dksX2_takes_0 1 rfl rfl)
theorem dX2_takes_2 : decode cX2_takes 2 = .ok (.getfield 18, 3) := dk_180 0 18 (dk_at dksX2_takes_0 2 rfl rfl)
theorem dX2_takes_5 : decode cX2_takes 5 = .ok (.putfield 18, 3) := dk_181 0 18 (dk_at dksX2_takes_0 5 rfl rfl)
theorem dX2_takes_8 : decode cX2_takes 8 = .ok (.iconst 0, 1) := dk_3 (dk_at dksX2_takes_0 8 rfl rfl)
theorem dX2_takes_9 : decode cX2_takes 9 = .ok (.istore_n 2, 1) := dk_61 (dk_at dksX2_takes_0 9 rfl rfl)
theorem dX2_takes_10 : decode cX2_takes 10 = .ok (.iload_n 2, 1) := dk_28 (dk_at dksX2_takes_0 10 rfl rfl)
theorem dX2_takes_11 : decode cX2_takes 11 = .ok (.aload_n 0, 1) := dk_42 (dk_at dksX2_takes_0 11 rfl rfl)
theorem dX2_takes_12 : decode cX2_takes 12 = .ok (.getfield 18, 3) := dk_180 0 18 (dk_at dksX2_takes_0 12 rfl rfl)
theorem dX2_takes_15 : decode cX2_takes 15 = .ok (.if_icmp .ge 24, 3) := dk_162 0 24 (dk_at dksX2_takes_0 15 rfl rfl)
theorem dX2_takes_18 : decode cX2_takes 18 = .ok (.aload_n 0, 1) := dk_42 (dk_at dksX2_takes_0 18 rfl rfl)
theorem dX2_takes_19 : decode cX2_takes 19 = .ok (.getfield 11, 3) := dk_180 0 11 (dk_at dksX2_takes_0 19 rfl rfl)
theorem dX2_takes_22 : decode cX2_takes 22 = .ok (.iload_n 2, 1) := dk_28 (dk_at dksX2_takes_0 22 rfl rfl)
theorem dX2_takes_23 : decode cX2_takes 23 = .ok (.aaload, 1) := dk_50 (dk_at dksX2_takes_0 23 rfl rfl)
theorem dX2_takes_24 : decode cX2_takes 24 = .ok (.aload_n 1, 1) := dk_43 (dk_at dksX2_takes_1 0 rfl rfl)
theorem dX2_takes_25 : decode cX2_takes 25 = .ok (.getfield 11, 3) := dk_180 0 11 (dk_at dksX2_takes_1 1 rfl rfl)
theorem dX2_takes_28 : decode cX2_takes 28 = .ok (.iload_n 2, 1) := dk_28 (dk_at dksX2_takes_1 4 rfl rfl)
theorem dX2_takes_29 : decode cX2_takes 29 = .ok (.aaload, 1) := dk_50 (dk_at dksX2_takes_1 5 rfl rfl)
theorem dX2_takes_30 : decode cX2_takes 30 = .ok (.invokevirtual 32, 3) := dk_182 0 32 (dk_at dksX2_takes_1 6 rfl rfl)
theorem dX2_takes_33 : decode cX2_takes 33 = .ok (.iinc 2 1, 3) := dk_132 2 1 (dk_at dksX2_takes_1 9 rfl rfl)
theorem dX2_takes_36 : decode cX2_takes 36 = .ok (.goto (-26), 3) := dk_167 255 230 (dk_at dksX2_takes_1 12 rfl rfl)
theorem dX2_takes_39 : decode cX2_takes 39 = .ok (.return_, 1) := dk_177 (dk_at dksX2_takes_1 15 rfl rfl)
abbrev cX2_comes : ByteArray := prog_3_method_2_code
def yX2_comes : MethodName := ⟨RX2, "comes", "(IIII)Z"⟩
def dkwX2_comes_1 : List UInt8 := [21, 4, 182, 0, 22, 42, 89, 180, 0, 18, 4, 96, 181, 0, 18, 4, 172]
abbrev dktX2_comes_1 : List UInt8 := dkwX2_comes_1 ++ []
def dkwX2_comes_0 : List UInt8 := [42, 180, 0, 18, 16, 24, 160, 0, 5, 3, 172, 42, 180, 0, 11, 42, 180, 0, 18, 50, 27, 28, 29]
abbrev dktX2_comes_0 : List UInt8 := dkwX2_comes_0 ++ dktX2_comes_1
theorem dksX2_comes_0 : cX2_comes.data.toList.drop 0 = dktX2_comes_0 := by decide +kernel
theorem dksX2_comes_1 : cX2_comes.data.toList.drop 23 = dktX2_comes_1 := dk_seg dksX2_comes_0 23 rfl rfl
theorem dX2_comes_0 : decode cX2_comes 0 = .ok (.aload_n 0, 1) := dk_42 (dk_at dksX2_comes_0 0 rfl rfl)
theorem dX2_comes_1 : decode cX2_comes 1 = .ok (.getfield 18, 3) := dk_180 0 18 (dk_at dksX2_comes_0 1 rfl rfl)
theorem dX2_comes_4 : decode cX2_comes 4 = .ok (.bipush 24, 2) := dk_16 24 (dk_at dksX2_comes_0 4 rfl rfl)
theorem dX2_comes_6 : decode cX2_comes 6 = .ok (.if_icmp .ne 5, 3) := dk_160 0 5 (dk_at dksX2_comes_0 6 rfl rfl)
theorem dX2_comes_9 : decode cX2_comes 9 = .ok (.iconst 0, 1) := dk_3 (dk_at dksX2_comes_0 9 rfl rfl)
theorem dX2_comes_10 : decode cX2_comes 10 = .ok (.ireturn, 1) := dk_172 (dk_at dksX2_comes_0 10 rfl rfl)
theorem dX2_comes_11 : decode cX2_comes 11 = .ok (.aload_n 0, 1) := dk_42 (dk_at dksX2_comes_0 11 rfl rfl)
theorem dX2_comes_12 : decode cX2_comes 12 = .ok (.getfield 11, 3) := dk_180 0 11 (dk_at dksX2_comes_0 12 rfl rfl)
theorem dX2_comes_15 : decode cX2_comes 15 = .ok (.aload_n 0, 1) := dk_42 (dk_at dksX2_comes_0 15 rfl rfl)
theorem dX2_comes_16 : decode cX2_comes 16 = .ok (.getfield 18, 3) := dk_180 0 18 (dk_at dksX2_comes_0 16 rfl rfl)
theorem dX2_comes_19 : decode cX2_comes 19 = .ok (.aaload, 1) := dk_50 (dk_at dksX2_comes_0 19 rfl rfl)
theorem dX2_comes_20 : decode cX2_comes 20 = .ok (.iload_n 1, 1) := dk_27 (dk_at dksX2_comes_0 20 rfl rfl)
theorem dX2_comes_21 : decode cX2_comes 21 = .ok (.iload_n 2, 1) := dk_28 (dk_at dksX2_comes_0 21 rfl rfl)
theorem dX2_comes_22 : decode cX2_comes 22 = .ok (.iload_n 3, 1) := dk_29 (dk_at dksX2_comes_0 22 rfl rfl)
theorem dX2_comes_23 : decode cX2_comes 23 = .ok (.iload 4, 2) := dk_21 4 (dk_at dksX2_comes_1 0 rfl rfl)
theorem dX2_comes_25 : decode cX2_comes 25 = .ok (.invokevirtual 22, 3) := dk_182 0 22 (dk_at dksX2_comes_1 2 rfl rfl)
theorem dX2_comes_28 : decode cX2_comes 28 = .ok (.aload_n 0, 1) := dk_42 (dk_at dksX2_comes_1 5 rfl rfl)
theorem dX2_comes_29 : decode cX2_comes 29 = .ok (.dup, 1) := dk_89 (dk_at dksX2_comes_1 6 rfl rfl)
theorem dX2_comes_30 : decode cX2_comes 30 = .ok (.getfield 18, 3) := dk_180 0 18 (dk_at dksX2_comes_1 7 rfl rfl)
theorem dX2_comes_33 : decode cX2_comes 33 = .ok (.iconst 1, 1) := dk_4 (dk_at dksX2_comes_1 10 rfl rfl)
theorem dX2_comes_34 : decode cX2_comes 34 = .ok (.iadd, 1) := dk_96 (dk_at dksX2_comes_1 11 rfl rfl)
theorem dX2_comes_35 : decode cX2_comes 35 = .ok (.putfield 18, 3) := dk_181 0 18 (dk_at dksX2_comes_1 12 rfl rfl)
theorem dX2_comes_38 : decode cX2_comes 38 = .ok (.iconst 1, 1) := dk_4 (dk_at dksX2_comes_1 15 rfl rfl)
theorem dX2_comes_39 : decode cX2_comes 39 = .ok (.ireturn, 1) := dk_172 (dk_at dksX2_comes_1 16 rfl rfl)
abbrev cX2_place : ByteArray := prog_3_method_4_code
def yX2_place : MethodName := ⟨RX2, "place", "(I)I"⟩
def dkwX2_place_1 : List UInt8 := [172, 132, 2, 1, 167, 255, 230, 2, 172]
abbrev dktX2_place_1 : List UInt8 := dkwX2_place_1 ++ []
def dkwX2_place_0 : List UInt8 := [3, 61, 28, 42, 180, 0, 18, 162, 0, 24, 42, 180, 0, 11, 28, 50, 180, 0, 26, 27, 160, 0, 5, 28]
abbrev dktX2_place_0 : List UInt8 := dkwX2_place_0 ++ dktX2_place_1
theorem dksX2_place_0 : cX2_place.data.toList.drop 0 = dktX2_place_0 := by decide +kernel
theorem dksX2_place_1 : cX2_place.data.toList.drop 24 = dktX2_place_1 := dk_seg dksX2_place_0 24 rfl rfl
theorem dX2_place_0 : decode cX2_place 0 = .ok (.iconst 0, 1) := dk_3 (dk_at dksX2_place_0 0 rfl rfl)
theorem dX2_place_1 : decode cX2_place 1 = .ok (.istore_n 2, 1) := dk_61 (dk_at dksX2_place_0 1 rfl rfl)
theorem dX2_place_2 : decode cX2_place 2 = .ok (.iload_n 2, 1) := dk_28 (dk_at dksX2_place_0 2 rfl rfl)
theorem dX2_place_3 : decode cX2_place 3 = .ok (.aload_n 0, 1) := dk_42 (dk_at dksX2_place_0 3 rfl rfl)
theorem dX2_place_4 : decode cX2_place 4 = .ok (.getfield 18, 3) := dk_180 0 18 (dk_at dksX2_place_0 4 rfl rfl)
theorem dX2_place_7 : decode cX2_place 7 = .ok (.if_icmp .ge 24, 3) := dk_162 0 24 (dk_at dksX2_place_0 7 rfl rfl)
theorem dX2_place_10 : decode cX2_place 10 = .ok (.aload_n 0, 1) := dk_42 (dk_at dksX2_place_0 10 rfl rfl)
theorem dX2_place_11 : decode cX2_place 11 = .ok (.getfield 11, 3) := dk_180 0 11 (dk_at dksX2_place_0 11 rfl rfl)
theorem dX2_place_14 : decode cX2_place 14 = .ok (.iload_n 2, 1) := dk_28 (dk_at dksX2_place_0 14 rfl rfl)
theorem dX2_place_15 : decode cX2_place 15 = .ok (.aaload, 1) := dk_50 (dk_at dksX2_place_0 15 rfl rfl)
theorem dX2_place_16 : decode cX2_place 16 = .ok (.getfield 26, 3) := dk_180 0 26 (dk_at dksX2_place_0 16 rfl rfl)
theorem dX2_place_19 : decode cX2_place 19 = .ok (.iload_n 1, 1) := dk_27 (dk_at dksX2_place_0 19 rfl rfl)
theorem dX2_place_20 : decode cX2_place 20 = .ok (.if_icmp .ne 5, 3) := dk_160 0 5 (dk_at dksX2_place_0 20 rfl rfl)
theorem dX2_place_23 : decode cX2_place 23 = .ok (.iload_n 2, 1) := dk_28 (dk_at dksX2_place_0 23 rfl rfl)
theorem dX2_place_24 : decode cX2_place 24 = .ok (.ireturn, 1) := dk_172 (dk_at dksX2_place_1 0 rfl rfl)
theorem dX2_place_25 : decode cX2_place 25 = .ok (.iinc 2 1, 3) := dk_132 2 1 (dk_at dksX2_place_1 1 rfl rfl)
theorem dX2_place_28 : decode cX2_place 28 = .ok (.goto (-26), 3) := dk_167 255 230 (dk_at dksX2_place_1 4 rfl rfl)
theorem dX2_place_31 : decode cX2_place 31 = .ok (.iconst (-1), 1) := dk_2 (dk_at dksX2_place_1 7 rfl rfl)
theorem dX2_place_32 : decode cX2_place 32 = .ok (.ireturn, 1) := dk_172 (dk_at dksX2_place_1 8 rfl rfl)
abbrev cX2_goes : ByteArray := prog_3_method_3_code
def yX2_goes : MethodName := ⟨RX2, "goes", "(I)V"⟩
def dkwX2_goes_2 : List UInt8 := [100, 44, 83, 42, 89, 180, 0, 18, 4, 100, 181, 0, 18, 177]
abbrev dktX2_goes_2 : List UInt8 := dkwX2_goes_2 ++ []
def dkwX2_goes_1 : List UInt8 := [4, 100, 42, 180, 0, 11, 29, 50, 83, 132, 3, 1, 167, 255, 231, 42, 180, 0, 11, 42, 180, 0, 18, 4]
abbrev dktX2_goes_1 : List UInt8 := dkwX2_goes_1 ++ dktX2_goes_2
def dkwX2_goes_0 : List UInt8 := [42, 180, 0, 11, 27, 50, 77, 27, 4, 96, 62, 29, 42, 180, 0, 18, 162, 0, 23, 42, 180, 0, 11, 29]
abbrev dktX2_goes_0 : List UInt8 := dkwX2_goes_0 ++ dktX2_goes_1
theorem dksX2_goes_0 : cX2_goes.data.toList.drop 0 = dktX2_goes_0 := by decide +kernel
theorem dksX2_goes_1 : cX2_goes.data.toList.drop 24 = dktX2_goes_1 := dk_seg dksX2_goes_0 24 rfl rfl
theorem dksX2_goes_2 : cX2_goes.data.toList.drop 48 = dktX2_goes_2 := dk_seg dksX2_goes_1 24 rfl rfl
theorem dX2_goes_0 : decode cX2_goes 0 = .ok (.aload_n 0, 1) := dk_42 (dk_at dksX2_goes_0 0 rfl rfl)
theorem dX2_goes_1 : decode cX2_goes 1 = .ok (.getfield 11, 3) := dk_180 0 11 (dk_at dksX2_goes_0 1 rfl rfl)
theorem dX2_goes_4 : decode cX2_goes 4 = .ok (.iload_n 1, 1) := dk_27 (dk_at dksX2_goes_0 4 rfl rfl)
theorem dX2_goes_5 : decode cX2_goes 5 = .ok (.aaload, 1) := dk_50 (dk_at dksX2_goes_0 5 rfl rfl)
theorem dX2_goes_6 : decode cX2_goes 6 = .ok (.astore_n 2, 1) := dk_77 (dk_at dksX2_goes_0 6 rfl rfl)
theorem dX2_goes_7 : decode cX2_goes 7 = .ok (.iload_n 1, 1) := dk_27 (dk_at dksX2_goes_0 7 rfl rfl)
theorem dX2_goes_8 : decode cX2_goes 8 = .ok (.iconst 1, 1) := dk_4 (dk_at dksX2_goes_0 8 rfl rfl)
theorem dX2_goes_9 : decode cX2_goes 9 = .ok (.iadd, 1) := dk_96 (dk_at dksX2_goes_0 9 rfl rfl)
theorem dX2_goes_10 : decode cX2_goes 10 = .ok (.istore_n 3, 1) := dk_62 (dk_at dksX2_goes_0 10 rfl rfl)
theorem dX2_goes_11 : decode cX2_goes 11 = .ok (.iload_n 3, 1) := dk_29 (dk_at dksX2_goes_0 11 rfl rfl)
theorem dX2_goes_12 : decode cX2_goes 12 = .ok (.aload_n 0, 1) := dk_42 (dk_at dksX2_goes_0 12 rfl rfl)
theorem dX2_goes_13 : decode cX2_goes 13 = .ok (.getfield 18, 3) := dk_180 0 18 (dk_at dksX2_goes_0 13 rfl rfl)
theorem dX2_goes_16 : decode cX2_goes 16 = .ok (.if_icmp .ge 23, 3) := dk_162 0 23 (dk_at dksX2_goes_0 16 rfl rfl)
theorem dX2_goes_19 : decode cX2_goes 19 = .ok (.aload_n 0, 1) := dk_42 (dk_at dksX2_goes_0 19 rfl rfl)
theorem dX2_goes_20 : decode cX2_goes 20 = .ok (.getfield 11, 3) := dk_180 0 11 (dk_at dksX2_goes_0 20 rfl rfl)
theorem dX2_goes_23 : decode cX2_goes 23 = .ok (.iload_n 3, 1) := dk_29 (dk_at dksX2_goes_0 23 rfl rfl)
theorem dX2_goes_24 : decode cX2_goes 24 = .ok (.iconst 1, 1) := dk_4 (dk_at dksX2_goes_1 0 rfl rfl)
theorem dX2_goes_25 : decode cX2_goes 25 = .ok (.isub, 1) := dk_100 (dk_at dksX2_goes_1 1 rfl rfl)
theorem dX2_goes_26 : decode cX2_goes 26 = .ok (.aload_n 0, 1) := dk_42 (dk_at dksX2_goes_1 2 rfl rfl)
theorem dX2_goes_27 : decode cX2_goes 27 = .ok (.getfield 11, 3) := dk_180 0 11 (dk_at dksX2_goes_1 3 rfl rfl)
theorem dX2_goes_30 : decode cX2_goes 30 = .ok (.iload_n 3, 1) := dk_29 (dk_at dksX2_goes_1 6 rfl rfl)
theorem dX2_goes_31 : decode cX2_goes 31 = .ok (.aaload, 1) := dk_50 (dk_at dksX2_goes_1 7 rfl rfl)
theorem dX2_goes_32 : decode cX2_goes 32 = .ok (.aastore, 1) := dk_83 (dk_at dksX2_goes_1 8 rfl rfl)
theorem dX2_goes_33 : decode cX2_goes 33 = .ok (.iinc 3 1, 3) := dk_132 3 1 (dk_at dksX2_goes_1 9 rfl rfl)
theorem dX2_goes_36 : decode cX2_goes 36 = .ok (.goto (-25), 3) := dk_167 255 231 (dk_at dksX2_goes_1 12 rfl rfl)
theorem dX2_goes_39 : decode cX2_goes 39 = .ok (.aload_n 0, 1) := dk_42 (dk_at dksX2_goes_1 15 rfl rfl)
theorem dX2_goes_40 : decode cX2_goes 40 = .ok (.getfield 11, 3) := dk_180 0 11 (dk_at dksX2_goes_1 16 rfl rfl)
theorem dX2_goes_43 : decode cX2_goes 43 = .ok (.aload_n 0, 1) := dk_42 (dk_at dksX2_goes_1 19 rfl rfl)
theorem dX2_goes_44 : decode cX2_goes 44 = .ok (.getfield 18, 3) := dk_180 0 18 (dk_at dksX2_goes_1 20 rfl rfl)
theorem dX2_goes_47 : decode cX2_goes 47 = .ok (.iconst 1, 1) := dk_4 (dk_at dksX2_goes_1 23 rfl rfl)
theorem dX2_goes_48 : decode cX2_goes 48 = .ok (.isub, 1) := dk_100 (dk_at dksX2_goes_2 0 rfl rfl)
theorem dX2_goes_49 : decode cX2_goes 49 = .ok (.aload_n 2, 1) := dk_44 (dk_at dksX2_goes_2 1 rfl rfl)
theorem dX2_goes_50 : decode cX2_goes 50 = .ok (.aastore, 1) := dk_83 (dk_at dksX2_goes_2 2 rfl rfl)
theorem dX2_goes_51 : decode cX2_goes 51 = .ok (.aload_n 0, 1) := dk_42 (dk_at dksX2_goes_2 3 rfl rfl)
theorem dX2_goes_52 : decode cX2_goes 52 = .ok (.dup, 1) := dk_89 (dk_at dksX2_goes_2 4 rfl rfl)
theorem dX2_goes_53 : decode cX2_goes 53 = .ok (.getfield 18, 3) := dk_180 0 18 (dk_at dksX2_goes_2 5 rfl rfl)
theorem dX2_goes_56 : decode cX2_goes 56 = .ok (.iconst 1, 1) := dk_4 (dk_at dksX2_goes_2 8 rfl rfl)
theorem dX2_goes_57 : decode cX2_goes 57 = .ok (.isub, 1) := dk_100 (dk_at dksX2_goes_2 9 rfl rfl)
theorem dX2_goes_58 : decode cX2_goes 58 = .ok (.putfield 18, 3) := dk_181 0 18 (dk_at dksX2_goes_2 10 rfl rfl)
theorem dX2_goes_61 : decode cX2_goes 61 = .ok (.return_, 1) := dk_177 (dk_at dksX2_goes_2 13 rfl rfl)
abbrev cX2_forDoor : ByteArray := prog_3_method_5_code
def yX2_forDoor : MethodName := ⟨RX2, "forDoor", "(I)I"⟩
def dkwX2_forDoor_1 : List UInt8 := [160, 0, 7, 4, 167, 0, 4, 3, 96, 61, 132, 3, 1, 167, 255, 224, 28, 172]
abbrev dktX2_forDoor_1 : List UInt8 := dkwX2_forDoor_1 ++ []
def dkwX2_forDoor_0 : List UInt8 := [3, 61, 3, 62, 29, 42, 180, 0, 18, 162, 0, 30, 28, 42, 180, 0, 11, 29, 50, 180, 0, 29, 27]
abbrev dktX2_forDoor_0 : List UInt8 := dkwX2_forDoor_0 ++ dktX2_forDoor_1
theorem dksX2_forDoor_0 : cX2_forDoor.data.toList.drop 0 = dktX2_forDoor_0 := by decide +kernel
theorem dksX2_forDoor_1 : cX2_forDoor.data.toList.drop 23 = dktX2_forDoor_1 := dk_seg dksX2_forDoor_0 23 rfl rfl
theorem dX2_forDoor_0 : decode cX2_forDoor 0 = .ok (.iconst 0, 1) := dk_3 (dk_at dksX2_forDoor_0 0 rfl rfl)
theorem dX2_forDoor_1 : decode cX2_forDoor 1 = .ok (.istore_n 2, 1) := dk_61 (dk_at dksX2_forDoor_0 1 rfl rfl)
theorem dX2_forDoor_2 : decode cX2_forDoor 2 = .ok (.iconst 0, 1) := dk_3 (dk_at dksX2_forDoor_0 2 rfl rfl)
theorem dX2_forDoor_3 : decode cX2_forDoor 3 = .ok (.istore_n 3, 1) := dk_62 (dk_at dksX2_forDoor_0 3 rfl rfl)
theorem dX2_forDoor_4 : decode cX2_forDoor 4 = .ok (.iload_n 3, 1) := dk_29 (dk_at dksX2_forDoor_0 4 rfl rfl)
theorem dX2_forDoor_5 : decode cX2_forDoor 5 = .ok (.aload_n 0, 1) := dk_42 (dk_at dksX2_forDoor_0 5 rfl rfl)
theorem dX2_forDoor_6 : decode cX2_forDoor 6 = .ok (.getfield 18, 3) := dk_180 0 18 (dk_at dksX2_forDoor_0 6 rfl rfl)
theorem dX2_forDoor_9 : decode cX2_forDoor 9 = .ok (.if_icmp .ge 30, 3) := dk_162 0 30 (dk_at dksX2_forDoor_0 9 rfl rfl)
theorem dX2_forDoor_12 : decode cX2_forDoor 12 = .ok (.iload_n 2, 1) := dk_28 (dk_at dksX2_forDoor_0 12 rfl rfl)
theorem dX2_forDoor_13 : decode cX2_forDoor 13 = .ok (.aload_n 0, 1) := dk_42 (dk_at dksX2_forDoor_0 13 rfl rfl)
theorem dX2_forDoor_14 : decode cX2_forDoor 14 = .ok (.getfield 11, 3) := dk_180 0 11 (dk_at dksX2_forDoor_0 14 rfl rfl)
theorem dX2_forDoor_17 : decode cX2_forDoor 17 = .ok (.iload_n 3, 1) := dk_29 (dk_at dksX2_forDoor_0 17 rfl rfl)
theorem dX2_forDoor_18 : decode cX2_forDoor 18 = .ok (.aaload, 1) := dk_50 (dk_at dksX2_forDoor_0 18 rfl rfl)
theorem dX2_forDoor_19 : decode cX2_forDoor 19 = .ok (.getfield 29, 3) := dk_180 0 29 (dk_at dksX2_forDoor_0 19 rfl rfl)
theorem dX2_forDoor_22 : decode cX2_forDoor 22 = .ok (.iload_n 1, 1) := dk_27 (dk_at dksX2_forDoor_0 22 rfl rfl)
theorem dX2_forDoor_23 : decode cX2_forDoor 23 = .ok (.if_icmp .ne 7, 3) := dk_160 0 7 (dk_at dksX2_forDoor_1 0 rfl rfl)
theorem dX2_forDoor_26 : decode cX2_forDoor 26 = .ok (.iconst 1, 1) := dk_4 (dk_at dksX2_forDoor_1 3 rfl rfl)
theorem dX2_forDoor_27 : decode cX2_forDoor 27 = .ok (.goto 4, 3) := dk_167 0 4 (dk_at dksX2_forDoor_1 4 rfl rfl)
theorem dX2_forDoor_30 : decode cX2_forDoor 30 = .ok (.iconst 0, 1) := dk_3 (dk_at dksX2_forDoor_1 7 rfl rfl)
theorem dX2_forDoor_31 : decode cX2_forDoor 31 = .ok (.iadd, 1) := dk_96 (dk_at dksX2_forDoor_1 8 rfl rfl)
theorem dX2_forDoor_32 : decode cX2_forDoor 32 = .ok (.istore_n 2, 1) := dk_61 (dk_at dksX2_forDoor_1 9 rfl rfl)
theorem dX2_forDoor_33 : decode cX2_forDoor 33 = .ok (.iinc 3 1, 3) := dk_132 3 1 (dk_at dksX2_forDoor_1 10 rfl rfl)
theorem dX2_forDoor_36 : decode cX2_forDoor 36 = .ok (.goto (-32), 3) := dk_167 255 224 (dk_at dksX2_forDoor_1 13 rfl rfl)
theorem dX2_forDoor_39 : decode cX2_forDoor 39 = .ok (.iload_n 2, 1) := dk_28 (dk_at dksX2_forDoor_1 16 rfl rfl)
theorem dX2_forDoor_40 : decode cX2_forDoor 40 = .ok (.ireturn, 1) := dk_172 (dk_at dksX2_forDoor_1 17 rfl rfl)
theorem q145 : (Jvm.Cond.initialized "KindPostman$Bag") ∈ lw_all := lw_g (lw_at lw_m1 3 rfl) rfl
theorem q191 : (Jvm.Cond.instantiable "KindPostman$Bag" (2 : Nat)) ∈ lw_all := lw_g (lw_at lw_m1 49 rfl) rfl
theorem q193 : (Jvm.Cond.instanceMethod ({ cls := "KindPostman$Bag", name := "<init>", desc := "()V" } : Jvm.MethodName)) ∈ lw_all := lw_g (lw_at lw_m1 51 rfl) rfl
theorem q194 : (Jvm.Cond.code ({ cls := "KindPostman$Bag", name := "<init>", desc := "()V" } : Jvm.MethodName) prog_3_method_1_code (2 : Nat) (Option.none : Option Jvm.ClassFile.FieldType)) ∈ lw_all := lw_g (lw_at lw_m1 52 rfl) rfl
theorem q195 : (Jvm.Cond.methodLink "KindPostman$Bag" (3 : Nat) ({ cls := "java/lang/Object", name := "<init>", desc := "()V" } : Jvm.MethodName)) ∈ lw_all := lw_g (lw_at lw_m1 53 rfl) rfl
theorem q196 : (Jvm.Cond.classLink "KindPostman$Bag" (9 : Nat) "KindPostman$Letter") ∈ lw_all := lw_g (lw_at lw_m1 54 rfl) rfl
theorem q199 : (Jvm.Cond.methodLinkNest "KindPostman$Bag" (17 : Nat) ({ cls := "KindPostman$Letter", name := "<init>", desc := "()V" } : Jvm.MethodName) "KindPostman") ∈ lw_tbl := lw_at lw_m1 57 rfl
theorem q204 : (Jvm.Cond.fieldLinkNest "KindPostman$Bag" (26 : Nat) "KindPostman$Letter" "number" "I" "KindPostman") ∈ lw_tbl := lw_at lw_m1 62 rfl
theorem q208 : (Jvm.Cond.fieldLinkNest "KindPostman$Bag" (29 : Nat) "KindPostman$Letter" "door" "I" "KindPostman") ∈ lw_tbl := lw_at lw_m1 66 rfl
theorem q232 : (Jvm.Cond.fieldLink "KindPostman$Bag" (11 : Nat) "KindPostman$Bag" "letter" "[LKindPostman$Letter;") ∈ lw_all := lw_g (lw_at lw_m1 90 rfl) rfl
theorem q235 : (Jvm.Cond.fieldLink "KindPostman$Bag" (18 : Nat) "KindPostman$Bag" "many" "I") ∈ lw_all := lw_g (lw_at lw_m1 93 rfl) rfl
theorem q238 : (Jvm.Cond.laysFinal "KindPostman$Bag" "KindPostman$Bag" "letter" "[LKindPostman$Letter;") ∈ lw_all := lw_g (lw_at lw_m1 96 rfl) rfl
theorem q239 : (Jvm.Cond.soleField "KindPostman$Bag" "letter") ∈ lw_all := lw_g (lw_at lw_m1 97 rfl) rfl
theorem q240 : (Jvm.Cond.lays "KindPostman$Bag" "KindPostman$Bag" "many" "I") ∈ lw_all := lw_g (lw_at lw_m1 98 rfl) rfl
theorem q241 : (Jvm.Cond.soleField "KindPostman$Bag" "many") ∈ lw_all := lw_g (lw_at lw_m1 99 rfl) rfl
theorem q242 : (Jvm.Cond.superclass "KindPostman$Bag" "java/lang/Object") ∈ lw_all := lw_g (lw_at lw_m1 100 rfl) rfl
theorem q879 : (Jvm.Cond.selects "KindPostman$Bag" ({ cls := "java/lang/Object", name := "getClass", desc := "()Ljava/lang/Class;" } : Jvm.MethodName) ({ cls := "java/lang/Object", name := "getClass", desc := "()Ljava/lang/Class;" } : Jvm.MethodName)) ∈ lw_all := lw_g (lw_at lw_m4 17 rfl) rfl
theorem q979 : (Jvm.Cond.instanceMethod ({ cls := "KindPostman$Bag", name := "takes", desc := "(LKindPostman$Bag;)V" } : Jvm.MethodName)) ∈ lw_all := lw_g (lw_at lw_m4 117 rfl) rfl
theorem q980 : (Jvm.Cond.selects "KindPostman$Bag" ({ cls := "KindPostman$Bag", name := "takes", desc := "(LKindPostman$Bag;)V" } : Jvm.MethodName) ({ cls := "KindPostman$Bag", name := "takes", desc := "(LKindPostman$Bag;)V" } : Jvm.MethodName)) ∈ lw_all := lw_g (lw_at lw_m4 118 rfl) rfl
theorem q981 : (Jvm.Cond.code ({ cls := "KindPostman$Bag", name := "takes", desc := "(LKindPostman$Bag;)V" } : Jvm.MethodName) prog_3_method_6_code (3 : Nat) (Option.none : Option Jvm.ClassFile.FieldType)) ∈ lw_all := lw_g (lw_at lw_m4 119 rfl) rfl
theorem q982 : (Jvm.Cond.methodLink "KindPostman$Bag" (32 : Nat) ({ cls := "KindPostman$Letter", name := "takes", desc := "(LKindPostman$Letter;)V" } : Jvm.MethodName)) ∈ lw_all := lw_g (lw_at lw_m4 120 rfl) rfl
theorem q1031 : (Jvm.Cond.instanceMethod ({ cls := "KindPostman$Bag", name := "comes", desc := "(IIII)Z" } : Jvm.MethodName)) ∈ lw_all := lw_g (lw_at lw_m4 169 rfl) rfl
theorem q1032 : (Jvm.Cond.selects "KindPostman$Bag" ({ cls := "KindPostman$Bag", name := "comes", desc := "(IIII)Z" } : Jvm.MethodName) ({ cls := "KindPostman$Bag", name := "comes", desc := "(IIII)Z" } : Jvm.MethodName)) ∈ lw_all := lw_g (lw_at lw_m4 170 rfl) rfl
theorem q1033 : (Jvm.Cond.code ({ cls := "KindPostman$Bag", name := "comes", desc := "(IIII)Z" } : Jvm.MethodName) prog_3_method_2_code (5 : Nat) (Option.some Jvm.ClassFile.FieldType.boolean)) ∈ lw_all := lw_g (lw_at lw_m4 171 rfl) rfl
theorem q1034 : (Jvm.Cond.methodLink "KindPostman$Bag" (22 : Nat) ({ cls := "KindPostman$Letter", name := "begins", desc := "(IIII)V" } : Jvm.MethodName)) ∈ lw_all := lw_g (lw_at lw_m4 172 rfl) rfl
theorem q1044 : (Jvm.Cond.instanceMethod ({ cls := "KindPostman$Bag", name := "place", desc := "(I)I" } : Jvm.MethodName)) ∈ lw_all := lw_g (lw_at lw_m4 182 rfl) rfl
theorem q1045 : (Jvm.Cond.selects "KindPostman$Bag" ({ cls := "KindPostman$Bag", name := "place", desc := "(I)I" } : Jvm.MethodName) ({ cls := "KindPostman$Bag", name := "place", desc := "(I)I" } : Jvm.MethodName)) ∈ lw_all := lw_g (lw_at lw_m4 183 rfl) rfl
theorem q1046 : (Jvm.Cond.code ({ cls := "KindPostman$Bag", name := "place", desc := "(I)I" } : Jvm.MethodName) prog_3_method_4_code (3 : Nat) (Option.some Jvm.ClassFile.FieldType.int)) ∈ lw_all := lw_g (lw_at lw_m4 184 rfl) rfl
theorem q1131 : (Jvm.Cond.instanceMethod ({ cls := "KindPostman$Bag", name := "goes", desc := "(I)V" } : Jvm.MethodName)) ∈ lw_all := lw_g (lw_at lw_m5 29 rfl) rfl
theorem q1132 : (Jvm.Cond.selects "KindPostman$Bag" ({ cls := "KindPostman$Bag", name := "goes", desc := "(I)V" } : Jvm.MethodName) ({ cls := "KindPostman$Bag", name := "goes", desc := "(I)V" } : Jvm.MethodName)) ∈ lw_all := lw_g (lw_at lw_m5 30 rfl) rfl
theorem q1133 : (Jvm.Cond.code ({ cls := "KindPostman$Bag", name := "goes", desc := "(I)V" } : Jvm.MethodName) prog_3_method_3_code (4 : Nat) (Option.none : Option Jvm.ClassFile.FieldType)) ∈ lw_all := lw_g (lw_at lw_m5 31 rfl) rfl
theorem q1173 : (Jvm.Cond.instanceMethod ({ cls := "KindPostman$Bag", name := "forDoor", desc := "(I)I" } : Jvm.MethodName)) ∈ lw_all := lw_g (lw_at lw_m5 71 rfl) rfl
theorem q1174 : (Jvm.Cond.selects "KindPostman$Bag" ({ cls := "KindPostman$Bag", name := "forDoor", desc := "(I)I" } : Jvm.MethodName) ({ cls := "KindPostman$Bag", name := "forDoor", desc := "(I)I" } : Jvm.MethodName)) ∈ lw_all := lw_g (lw_at lw_m5 72 rfl) rfl
theorem q1175 : (Jvm.Cond.code ({ cls := "KindPostman$Bag", name := "forDoor", desc := "(I)I" } : Jvm.MethodName) prog_3_method_5_code (4 : Nat) (Option.some Jvm.ClassFile.FieldType.int)) ∈ lw_all := lw_g (lw_at lw_m5 73 rfl) rfl
theorem q2078 : (Jvm.Cond.castable "KindPostman$Bag" "java/lang/Object") ∈ lw_tbl := lw_at lw_m9 16 rfl
theorem in_X2 : ∀ w ∈ wsX20, w ∈ lw_all := lw_in wsX20 [238, 240] (by decide +kernel) (by decide +kernel)
/-! KindPostman$Letter -/
set_option maxRecDepth 100000
def RX3 : String := "KindPostman$Letter"
def TX3 : u_T := fun k => match k with
  | 0 => ("KindPostman$Letter", "number", "I", false)
  | 1 => ("KindPostman$Letter", "door", "I", false)
  | 2 => ("KindPostman$Letter", "kind", "I", false)
  | 3 => ("KindPostman$Letter", "much", "I", false)
  | _ => ("KindPostman$Letter", "age", "I", false)
def tyX3 : Nat → FieldType := fun k => match k with
  | 0 => .int
  | 1 => .int
  | 2 => .int
  | 3 => .int
  | _ => .int
abbrev wsX30 : List Cond := u_ws RX3 TX3 5
theorem nmX3 : ∀ a, a < 5 → ∀ b, b < 5 → a ≠ b → (TX3 a).2.1 ≠ (TX3 b).2.1 := by decide +kernel
theorem tyX3_ok : ∀ k, k < 5 → parseFieldDescriptor (TX3 k).2.2.1 = some (tyX3 k) := by decide +kernel
abbrev cX3_init : ByteArray := prog_9_method_1_code
def yX3_init : MethodName := ⟨RX3, "<init>", "()V"⟩
theorem dX3_init_0 : decode cX3_init 0 = .ok (.aload_n 0, 1) := by decide +kernel
theorem dX3_init_1 : decode cX3_init 1 = .ok (.invokespecial 1, 3) := by decide +kernel
theorem dX3_init_4 : decode cX3_init 4 = .ok (.return_, 1) := by decide +kernel
abbrev cX3_takes : ByteArray := prog_9_method_3_code
def yX3_takes : MethodName := ⟨RX3, "takes", "(LKindPostman$Letter;)V"⟩
def dkwX3_takes_1 : List UInt8 := [180, 0, 22, 181, 0, 22, 177]
abbrev dktX3_takes_1 : List UInt8 := dkwX3_takes_1 ++ []
def dkwX3_takes_0 : List UInt8 := [42, 43, 180, 0, 7, 43, 180, 0, 13, 43, 180, 0, 16, 43, 180, 0, 19, 182, 0, 25, 42, 43]
abbrev dktX3_takes_0 : List UInt8 := dkwX3_takes_0 ++ dktX3_takes_1
theorem dksX3_takes_0 : cX3_takes.data.toList.drop 0 = dktX3_takes_0 := by decide +kernel
theorem dksX3_takes_1 : cX3_takes.data.toList.drop 22 = dktX3_takes_1 := dk_seg dksX3_takes_0 22 rfl rfl
theorem dX3_takes_0 : decode cX3_takes 0 = .ok (.aload_n 0, 1) := dk_42 (dk_at dksX3_takes_0 0 rfl rfl)
theorem dX3_takes_1 : decode cX3_takes 1 = .ok (.aload_n 1, 1) := dk_43 (dk_at dksX3_takes_0 1 rfl rfl)
theorem dX3_takes_2 : decode cX3_takes 2 = .ok (.getfield 7, 3) := dk_180 0 7 (dk_at dksX3_takes_0 2 rfl rfl)
theorem dX3_takes_5 : decode cX3_takes 5 = .ok (.aload_n 1, 1) := dk_43 (dk_at dksX3_takes_0 5 rfl rfl)
theorem dX3_takes_6 : decode cX3_takes 6 = .ok (.getfield 13, 3) := dk_180 0 13 (dk_at dksX3_takes_0 6 rfl rfl)
theorem dX3_takes_9 : decode cX3_takes 9 = .ok (.aload_n 1, 1) := dk_43 (dk_at dksX3_takes_0 9 rfl rfl)
theorem dX3_takes_10 : decode cX3_takes 10 = .ok (.getfield 16, 3) := dk_180 0 16 (dk_at dksX3_takes_0 10 rfl rfl)
theorem dX3_takes_13 : decode cX3_takes 13 = .ok (.aload_n 1, 1) := dk_43 (dk_at dksX3_takes_0 13 rfl rfl)
theorem dX3_takes_14 : decode cX3_takes 14 = .ok (.getfield 19, 3) := dk_180 0 19 (dk_at dksX3_takes_0 14 rfl rfl)
theorem dX3_takes_17 : decode cX3_takes 17 = .ok (.invokevirtual 25, 3) := dk_182 0 25 (dk_at dksX3_takes_0 17 rfl rfl)
theorem dX3_takes_20 : decode cX3_takes 20 = .ok (.aload_n 0, 1) := dk_42 (dk_at dksX3_takes_0 20 rfl rfl)
theorem dX3_takes_21 : decode cX3_takes 21 = .ok (.aload_n 1, 1) := dk_43 (dk_at dksX3_takes_0 21 rfl rfl)
theorem dX3_takes_22 : decode cX3_takes 22 = .ok (.getfield 22, 3) := dk_180 0 22 (dk_at dksX3_takes_1 0 rfl rfl)
theorem dX3_takes_25 : decode cX3_takes 25 = .ok (.putfield 22, 3) := dk_181 0 22 (dk_at dksX3_takes_1 3 rfl rfl)
theorem dX3_takes_28 : decode cX3_takes 28 = .ok (.return_, 1) := dk_177 (dk_at dksX3_takes_1 6 rfl rfl)
abbrev cX3_begins : ByteArray := prog_9_method_2_code
def yX3_begins : MethodName := ⟨RX3, "begins", "(IIII)V"⟩
def dkwX3_begins_1 : List UInt8 := [181, 0, 22, 177]
abbrev dktX3_begins_1 : List UInt8 := dkwX3_begins_1 ++ []
def dkwX3_begins_0 : List UInt8 := [42, 27, 181, 0, 7, 42, 28, 181, 0, 13, 42, 29, 181, 0, 16, 42, 21, 4, 181, 0, 19, 42, 3]
abbrev dktX3_begins_0 : List UInt8 := dkwX3_begins_0 ++ dktX3_begins_1
theorem dksX3_begins_0 : cX3_begins.data.toList.drop 0 = dktX3_begins_0 := by decide +kernel
theorem dksX3_begins_1 : cX3_begins.data.toList.drop 23 = dktX3_begins_1 := dk_seg dksX3_begins_0 23 rfl rfl
theorem dX3_begins_0 : decode cX3_begins 0 = .ok (.aload_n 0, 1) := dk_42 (dk_at dksX3_begins_0 0 rfl rfl)
theorem dX3_begins_1 : decode cX3_begins 1 = .ok (.iload_n 1, 1) := dk_27 (dk_at dksX3_begins_0 1 rfl rfl)
theorem dX3_begins_2 : decode cX3_begins 2 = .ok (.putfield 7, 3) := dk_181 0 7 (dk_at dksX3_begins_0 2 rfl rfl)
theorem dX3_begins_5 : decode cX3_begins 5 = .ok (.aload_n 0, 1) := dk_42 (dk_at dksX3_begins_0 5 rfl rfl)
theorem dX3_begins_6 : decode cX3_begins 6 = .ok (.iload_n 2, 1) := dk_28 (dk_at dksX3_begins_0 6 rfl rfl)
theorem dX3_begins_7 : decode cX3_begins 7 = .ok (.putfield 13, 3) := dk_181 0 13 (dk_at dksX3_begins_0 7 rfl rfl)
theorem dX3_begins_10 : decode cX3_begins 10 = .ok (.aload_n 0, 1) := dk_42 (dk_at dksX3_begins_0 10 rfl rfl)
theorem dX3_begins_11 : decode cX3_begins 11 = .ok (.iload_n 3, 1) := dk_29 (dk_at dksX3_begins_0 11 rfl rfl)
theorem dX3_begins_12 : decode cX3_begins 12 = .ok (.putfield 16, 3) := dk_181 0 16 (dk_at dksX3_begins_0 12 rfl rfl)
theorem dX3_begins_15 : decode cX3_begins 15 = .ok (.aload_n 0, 1) := dk_42 (dk_at dksX3_begins_0 15 rfl rfl)
theorem dX3_begins_16 : decode cX3_begins 16 = .ok (.iload 4, 2) := dk_21 4 (dk_at dksX3_begins_0 16 rfl rfl)
theorem dX3_begins_18 : decode cX3_begins 18 = .ok (.putfield 19, 3) := dk_181 0 19 (dk_at dksX3_begins_0 18 rfl rfl)
theorem dX3_begins_21 : decode cX3_begins 21 = .ok (.aload_n 0, 1) := dk_42 (dk_at dksX3_begins_0 21 rfl rfl)
theorem dX3_begins_22 : decode cX3_begins 22 = .ok (.iconst 0, 1) := dk_3 (dk_at dksX3_begins_0 22 rfl rfl)
theorem dX3_begins_23 : decode cX3_begins 23 = .ok (.putfield 22, 3) := dk_181 0 22 (dk_at dksX3_begins_1 0 rfl rfl)
theorem dX3_begins_26 : decode cX3_begins 26 = .ok (.return_, 1) := dk_177 (dk_at dksX3_begins_1 3 rfl rfl)
theorem q146 : (Jvm.Cond.initialized "KindPostman$Letter") ∈ lw_all := lw_g (lw_at lw_m1 4 rfl) rfl
theorem q198 : (Jvm.Cond.instantiable "KindPostman$Letter" (5 : Nat)) ∈ lw_all := lw_g (lw_at lw_m1 56 rfl) rfl
theorem q200 : (Jvm.Cond.instanceMethod ({ cls := "KindPostman$Letter", name := "<init>", desc := "()V" } : Jvm.MethodName)) ∈ lw_all := lw_g (lw_at lw_m1 58 rfl) rfl
theorem q201 : (Jvm.Cond.code ({ cls := "KindPostman$Letter", name := "<init>", desc := "()V" } : Jvm.MethodName) prog_9_method_1_code (1 : Nat) (Option.none : Option Jvm.ClassFile.FieldType)) ∈ lw_all := lw_g (lw_at lw_m1 59 rfl) rfl
theorem q202 : (Jvm.Cond.methodLink "KindPostman$Letter" (1 : Nat) ({ cls := "java/lang/Object", name := "<init>", desc := "()V" } : Jvm.MethodName)) ∈ lw_all := lw_g (lw_at lw_m1 60 rfl) rfl
theorem q203 : (Jvm.Cond.fieldLink "KindPostman$Letter" (7 : Nat) "KindPostman$Letter" "number" "I") ∈ lw_all := lw_g (lw_at lw_m1 61 rfl) rfl
theorem q207 : (Jvm.Cond.fieldLink "KindPostman$Letter" (13 : Nat) "KindPostman$Letter" "door" "I") ∈ lw_all := lw_g (lw_at lw_m1 65 rfl) rfl
theorem q211 : (Jvm.Cond.fieldLink "KindPostman$Letter" (16 : Nat) "KindPostman$Letter" "kind" "I") ∈ lw_all := lw_g (lw_at lw_m1 69 rfl) rfl
theorem q214 : (Jvm.Cond.fieldLink "KindPostman$Letter" (19 : Nat) "KindPostman$Letter" "much" "I") ∈ lw_all := lw_g (lw_at lw_m1 72 rfl) rfl
theorem q217 : (Jvm.Cond.fieldLink "KindPostman$Letter" (22 : Nat) "KindPostman$Letter" "age" "I") ∈ lw_all := lw_g (lw_at lw_m1 75 rfl) rfl
theorem q220 : (Jvm.Cond.lays "KindPostman$Letter" "KindPostman$Letter" "number" "I") ∈ lw_all := lw_g (lw_at lw_m1 78 rfl) rfl
theorem q221 : (Jvm.Cond.soleField "KindPostman$Letter" "number") ∈ lw_all := lw_g (lw_at lw_m1 79 rfl) rfl
theorem q222 : (Jvm.Cond.lays "KindPostman$Letter" "KindPostman$Letter" "door" "I") ∈ lw_all := lw_g (lw_at lw_m1 80 rfl) rfl
theorem q223 : (Jvm.Cond.soleField "KindPostman$Letter" "door") ∈ lw_all := lw_g (lw_at lw_m1 81 rfl) rfl
theorem q224 : (Jvm.Cond.lays "KindPostman$Letter" "KindPostman$Letter" "kind" "I") ∈ lw_all := lw_g (lw_at lw_m1 82 rfl) rfl
theorem q225 : (Jvm.Cond.soleField "KindPostman$Letter" "kind") ∈ lw_all := lw_g (lw_at lw_m1 83 rfl) rfl
theorem q226 : (Jvm.Cond.lays "KindPostman$Letter" "KindPostman$Letter" "much" "I") ∈ lw_all := lw_g (lw_at lw_m1 84 rfl) rfl
theorem q227 : (Jvm.Cond.soleField "KindPostman$Letter" "much") ∈ lw_all := lw_g (lw_at lw_m1 85 rfl) rfl
theorem q228 : (Jvm.Cond.lays "KindPostman$Letter" "KindPostman$Letter" "age" "I") ∈ lw_all := lw_g (lw_at lw_m1 86 rfl) rfl
theorem q229 : (Jvm.Cond.soleField "KindPostman$Letter" "age") ∈ lw_all := lw_g (lw_at lw_m1 87 rfl) rfl
theorem q230 : (Jvm.Cond.superclass "KindPostman$Letter" "java/lang/Object") ∈ lw_all := lw_g (lw_at lw_m1 88 rfl) rfl
theorem q885 : (Jvm.Cond.selects "KindPostman$Letter" ({ cls := "java/lang/Object", name := "getClass", desc := "()Ljava/lang/Class;" } : Jvm.MethodName) ({ cls := "java/lang/Object", name := "getClass", desc := "()Ljava/lang/Class;" } : Jvm.MethodName)) ∈ lw_all := lw_g (lw_at lw_m4 23 rfl) rfl
theorem q983 : (Jvm.Cond.instanceMethod ({ cls := "KindPostman$Letter", name := "takes", desc := "(LKindPostman$Letter;)V" } : Jvm.MethodName)) ∈ lw_all := lw_g (lw_at lw_m4 121 rfl) rfl
theorem q984 : (Jvm.Cond.selects "KindPostman$Letter" ({ cls := "KindPostman$Letter", name := "takes", desc := "(LKindPostman$Letter;)V" } : Jvm.MethodName) ({ cls := "KindPostman$Letter", name := "takes", desc := "(LKindPostman$Letter;)V" } : Jvm.MethodName)) ∈ lw_all := lw_g (lw_at lw_m4 122 rfl) rfl
theorem q985 : (Jvm.Cond.code ({ cls := "KindPostman$Letter", name := "takes", desc := "(LKindPostman$Letter;)V" } : Jvm.MethodName) prog_9_method_3_code (2 : Nat) (Option.none : Option Jvm.ClassFile.FieldType)) ∈ lw_all := lw_g (lw_at lw_m4 123 rfl) rfl
theorem q986 : (Jvm.Cond.methodLink "KindPostman$Letter" (25 : Nat) ({ cls := "KindPostman$Letter", name := "begins", desc := "(IIII)V" } : Jvm.MethodName)) ∈ lw_all := lw_g (lw_at lw_m4 124 rfl) rfl
theorem q987 : (Jvm.Cond.instanceMethod ({ cls := "KindPostman$Letter", name := "begins", desc := "(IIII)V" } : Jvm.MethodName)) ∈ lw_all := lw_g (lw_at lw_m4 125 rfl) rfl
theorem q988 : (Jvm.Cond.selects "KindPostman$Letter" ({ cls := "KindPostman$Letter", name := "begins", desc := "(IIII)V" } : Jvm.MethodName) ({ cls := "KindPostman$Letter", name := "begins", desc := "(IIII)V" } : Jvm.MethodName)) ∈ lw_all := lw_g (lw_at lw_m4 126 rfl) rfl
theorem q989 : (Jvm.Cond.code ({ cls := "KindPostman$Letter", name := "begins", desc := "(IIII)V" } : Jvm.MethodName) prog_9_method_2_code (5 : Nat) (Option.none : Option Jvm.ClassFile.FieldType)) ∈ lw_all := lw_g (lw_at lw_m4 127 rfl) rfl
theorem q2075 : (Jvm.Cond.castable "KindPostman$Letter" "java/lang/Object") ∈ lw_tbl := lw_at lw_m9 13 rfl
theorem in_X3 : ∀ w ∈ wsX30, w ∈ lw_all := lw_in wsX30 [220, 222, 224, 226, 228] (by decide +kernel) (by decide +kernel)
/-! KindPostman$Rows -/
set_option maxRecDepth 100000
def RX4 : String := "KindPostman$Rows"
def TX4 : u_T := fun k => match k with
  | 0 => ("KindPostman$Rows", "row", "[[I", true)
  | _ => ("KindPostman$Rows", "many", "I", false)
def tyX4 : Nat → FieldType := fun k => match k with
  | 0 => .array (.array .int)
  | _ => .int
abbrev wsX40 : List Cond := u_ws RX4 TX4 2
theorem nmX4 : ∀ a, a < 2 → ∀ b, b < 2 → a ≠ b → (TX4 a).2.1 ≠ (TX4 b).2.1 := by decide +kernel
theorem tyX4_ok : ∀ k, k < 2 → parseFieldDescriptor (TX4 k).2.2.1 = some (tyX4 k) := by decide +kernel
abbrev cX4_init : ByteArray := prog_14_method_1_code
def yX4_init : MethodName := ⟨RX4, "<init>", "(I)V"⟩
def dkwX4_init_0 : List UInt8 := [42, 183, 0, 3, 42, 27, 6, 197, 0, 9, 2, 181, 0, 11, 177]
abbrev dktX4_init_0 : List UInt8 := dkwX4_init_0 ++ []
theorem dksX4_init_0 : cX4_init.data.toList.drop 0 = dktX4_init_0 := by decide +kernel
theorem dX4_init_0 : decode cX4_init 0 = .ok (.aload_n 0, 1) := dk_42 (dk_at dksX4_init_0 0 rfl rfl)
theorem dX4_init_1 : decode cX4_init 1 = .ok (.invokespecial 3, 3) := dk_183 0 3 (dk_at dksX4_init_0 1 rfl rfl)
theorem dX4_init_4 : decode cX4_init 4 = .ok (.aload_n 0, 1) := dk_42 (dk_at dksX4_init_0 4 rfl rfl)
theorem dX4_init_5 : decode cX4_init 5 = .ok (.iload_n 1, 1) := dk_27 (dk_at dksX4_init_0 5 rfl rfl)
theorem dX4_init_6 : decode cX4_init 6 = .ok (.iconst 3, 1) := dk_6 (dk_at dksX4_init_0 6 rfl rfl)
theorem dX4_init_7 : decode cX4_init 7 = .ok (.multianewarray 9 2, 4) := by decide +kernel
theorem dX4_init_11 : decode cX4_init 11 = .ok (.putfield 11, 3) := dk_181 0 11 (dk_at dksX4_init_0 11 rfl rfl)
theorem dX4_init_14 : decode cX4_init 14 = .ok (.return_, 1) := dk_177 (dk_at dksX4_init_0 14 rfl rfl)
abbrev cX4_ends : ByteArray := prog_14_method_3_code
def yX4_ends : MethodName := ⟨RX4, "ends", "()I"⟩
def dkwX4_ends_0 : List UInt8 := [42, 3, 181, 0, 16, 3, 172]
abbrev dktX4_ends_0 : List UInt8 := dkwX4_ends_0 ++ []
theorem dksX4_ends_0 : cX4_ends.data.toList.drop 0 = dktX4_ends_0 := by decide +kernel
theorem dX4_ends_0 : decode cX4_ends 0 = .ok (.aload_n 0, 1) := dk_42 (dk_at dksX4_ends_0 0 rfl rfl)
theorem dX4_ends_1 : decode cX4_ends 1 = .ok (.iconst 0, 1) := dk_3 (dk_at dksX4_ends_0 1 rfl rfl)
theorem dX4_ends_2 : decode cX4_ends 2 = .ok (.putfield 16, 3) := dk_181 0 16 (dk_at dksX4_ends_0 2 rfl rfl)
theorem dX4_ends_5 : decode cX4_ends 5 = .ok (.iconst 0, 1) := dk_3 (dk_at dksX4_ends_0 5 rfl rfl)
theorem dX4_ends_6 : decode cX4_ends 6 = .ok (.ireturn, 1) := dk_172 (dk_at dksX4_ends_0 6 rfl rfl)
abbrev cX4_tells : ByteArray := prog_14_method_2_code
def yX4_tells : MethodName := ⟨RX4, "tells", "(III)I"⟩
def dkwX4_tells_2 : List UInt8 := [29, 79, 42, 89, 180, 0, 16, 4, 96, 181, 0, 16, 42, 180, 0, 16, 172]
abbrev dktX4_tells_2 : List UInt8 := dkwX4_tells_2 ++ []
def dkwX4_tells_1 : List UInt8 := [27, 79, 42, 180, 0, 11, 42, 180, 0, 16, 50, 4, 28, 79, 42, 180, 0, 11, 42, 180, 0, 16, 50, 5]
abbrev dktX4_tells_1 : List UInt8 := dkwX4_tells_1 ++ dktX4_tells_2
def dkwX4_tells_0 : List UInt8 := [42, 180, 0, 16, 42, 180, 0, 11, 190, 160, 0, 5, 2, 172, 42, 180, 0, 11, 42, 180, 0, 16, 50, 3]
abbrev dktX4_tells_0 : List UInt8 := dkwX4_tells_0 ++ dktX4_tells_1
theorem dksX4_tells_0 : cX4_tells.data.toList.drop 0 = dktX4_tells_0 := by decide +kernel
theorem dksX4_tells_1 : cX4_tells.data.toList.drop 24 = dktX4_tells_1 := dk_seg dksX4_tells_0 24 rfl rfl
theorem dksX4_tells_2 : cX4_tells.data.toList.drop 48 = dktX4_tells_2 := dk_seg dksX4_tells_1 24 rfl rfl
theorem dX4_tells_0 : decode cX4_tells 0 = .ok (.aload_n 0, 1) := dk_42 (dk_at dksX4_tells_0 0 rfl rfl)
theorem dX4_tells_1 : decode cX4_tells 1 = .ok (.getfield 16, 3) := dk_180 0 16 (dk_at dksX4_tells_0 1 rfl rfl)
theorem dX4_tells_4 : decode cX4_tells 4 = .ok (.aload_n 0, 1) := dk_42 (dk_at dksX4_tells_0 4 rfl rfl)
theorem dX4_tells_5 : decode cX4_tells 5 = .ok (.getfield 11, 3) := dk_180 0 11 (dk_at dksX4_tells_0 5 rfl rfl)
theorem dX4_tells_8 : decode cX4_tells 8 = .ok (.arraylength, 1) := dk_190 (dk_at dksX4_tells_0 8 rfl rfl)
theorem dX4_tells_9 : decode cX4_tells 9 = .ok (.if_icmp .ne 5, 3) := dk_160 0 5 (dk_at dksX4_tells_0 9 rfl rfl)
theorem dX4_tells_12 : decode cX4_tells 12 = .ok (.iconst (-1), 1) := dk_2 (dk_at dksX4_tells_0 12 rfl rfl)
theorem dX4_tells_13 : decode cX4_tells 13 = .ok (.ireturn, 1) := dk_172 (dk_at dksX4_tells_0 13 rfl rfl)
theorem dX4_tells_14 : decode cX4_tells 14 = .ok (.aload_n 0, 1) := dk_42 (dk_at dksX4_tells_0 14 rfl rfl)
theorem dX4_tells_15 : decode cX4_tells 15 = .ok (.getfield 11, 3) := dk_180 0 11 (dk_at dksX4_tells_0 15 rfl rfl)
theorem dX4_tells_18 : decode cX4_tells 18 = .ok (.aload_n 0, 1) := dk_42 (dk_at dksX4_tells_0 18 rfl rfl)
theorem dX4_tells_19 : decode cX4_tells 19 = .ok (.getfield 16, 3) := dk_180 0 16 (dk_at dksX4_tells_0 19 rfl rfl)
theorem dX4_tells_22 : decode cX4_tells 22 = .ok (.aaload, 1) := dk_50 (dk_at dksX4_tells_0 22 rfl rfl)
theorem dX4_tells_23 : decode cX4_tells 23 = .ok (.iconst 0, 1) := dk_3 (dk_at dksX4_tells_0 23 rfl rfl)
theorem dX4_tells_24 : decode cX4_tells 24 = .ok (.iload_n 1, 1) := dk_27 (dk_at dksX4_tells_1 0 rfl rfl)
theorem dX4_tells_25 : decode cX4_tells 25 = .ok (.iastore, 1) := dk_79 (dk_at dksX4_tells_1 1 rfl rfl)
theorem dX4_tells_26 : decode cX4_tells 26 = .ok (.aload_n 0, 1) := dk_42 (dk_at dksX4_tells_1 2 rfl rfl)
theorem dX4_tells_27 : decode cX4_tells 27 = .ok (.getfield 11, 3) := dk_180 0 11 (dk_at dksX4_tells_1 3 rfl rfl)
theorem dX4_tells_30 : decode cX4_tells 30 = .ok (.aload_n 0, 1) := dk_42 (dk_at dksX4_tells_1 6 rfl rfl)
theorem dX4_tells_31 : decode cX4_tells 31 = .ok (.getfield 16, 3) := dk_180 0 16 (dk_at dksX4_tells_1 7 rfl rfl)
theorem dX4_tells_34 : decode cX4_tells 34 = .ok (.aaload, 1) := dk_50 (dk_at dksX4_tells_1 10 rfl rfl)
theorem dX4_tells_35 : decode cX4_tells 35 = .ok (.iconst 1, 1) := dk_4 (dk_at dksX4_tells_1 11 rfl rfl)
theorem dX4_tells_36 : decode cX4_tells 36 = .ok (.iload_n 2, 1) := dk_28 (dk_at dksX4_tells_1 12 rfl rfl)
theorem dX4_tells_37 : decode cX4_tells 37 = .ok (.iastore, 1) := dk_79 (dk_at dksX4_tells_1 13 rfl rfl)
theorem dX4_tells_38 : decode cX4_tells 38 = .ok (.aload_n 0, 1) := dk_42 (dk_at dksX4_tells_1 14 rfl rfl)
theorem dX4_tells_39 : decode cX4_tells 39 = .ok (.getfield 11, 3) := dk_180 0 11 (dk_at dksX4_tells_1 15 rfl rfl)
theorem dX4_tells_42 : decode cX4_tells 42 = .ok (.aload_n 0, 1) := dk_42 (dk_at dksX4_tells_1 18 rfl rfl)
theorem dX4_tells_43 : decode cX4_tells 43 = .ok (.getfield 16, 3) := dk_180 0 16 (dk_at dksX4_tells_1 19 rfl rfl)
theorem dX4_tells_46 : decode cX4_tells 46 = .ok (.aaload, 1) := dk_50 (dk_at dksX4_tells_1 22 rfl rfl)
theorem dX4_tells_47 : decode cX4_tells 47 = .ok (.iconst 2, 1) := dk_5 (dk_at dksX4_tells_1 23 rfl rfl)
theorem dX4_tells_48 : decode cX4_tells 48 = .ok (.iload_n 3, 1) := dk_29 (dk_at dksX4_tells_2 0 rfl rfl)
theorem dX4_tells_49 : decode cX4_tells 49 = .ok (.iastore, 1) := dk_79 (dk_at dksX4_tells_2 1 rfl rfl)
theorem dX4_tells_50 : decode cX4_tells 50 = .ok (.aload_n 0, 1) := dk_42 (dk_at dksX4_tells_2 2 rfl rfl)
theorem dX4_tells_51 : decode cX4_tells 51 = .ok (.dup, 1) := dk_89 (dk_at dksX4_tells_2 3 rfl rfl)
theorem dX4_tells_52 : decode cX4_tells 52 = .ok (.getfield 16, 3) := dk_180 0 16 (dk_at dksX4_tells_2 4 rfl rfl)
theorem dX4_tells_55 : decode cX4_tells 55 = .ok (.iconst 1, 1) := dk_4 (dk_at dksX4_tells_2 7 rfl rfl)
theorem dX4_tells_56 : decode cX4_tells 56 = .ok (.iadd, 1) := dk_96 (dk_at dksX4_tells_2 8 rfl rfl)
theorem dX4_tells_57 : decode cX4_tells 57 = .ok (.putfield 16, 3) := dk_181 0 16 (dk_at dksX4_tells_2 9 rfl rfl)
theorem dX4_tells_60 : decode cX4_tells 60 = .ok (.aload_n 0, 1) := dk_42 (dk_at dksX4_tells_2 12 rfl rfl)
theorem dX4_tells_61 : decode cX4_tells 61 = .ok (.getfield 16, 3) := dk_180 0 16 (dk_at dksX4_tells_2 13 rfl rfl)
theorem dX4_tells_64 : decode cX4_tells 64 = .ok (.ireturn, 1) := dk_172 (dk_at dksX4_tells_2 16 rfl rfl)
abbrev cX4_takes : ByteArray := prog_14_method_4_code
def yX4_takes : MethodName := ⟨RX4, "takes", "(LKindPostman$Rows;)V"⟩
def dkwX4_takes_2 : List UInt8 := [167, 255, 232, 132, 2, 1, 167, 255, 216, 177]
abbrev dktX4_takes_2 : List UInt8 := dkwX4_takes_2 ++ []
def dkwX4_takes_1 : List UInt8 := [162, 0, 25, 42, 180, 0, 11, 28, 50, 29, 43, 180, 0, 11, 28, 50, 29, 46, 79, 132, 3, 1]
abbrev dktX4_takes_1 : List UInt8 := dkwX4_takes_1 ++ dktX4_takes_2
def dkwX4_takes_0 : List UInt8 := [42, 43, 180, 0, 16, 181, 0, 16, 3, 61, 28, 42, 180, 0, 16, 162, 0, 38, 3, 62, 29, 6]
abbrev dktX4_takes_0 : List UInt8 := dkwX4_takes_0 ++ dktX4_takes_1
theorem dksX4_takes_0 : cX4_takes.data.toList.drop 0 = dktX4_takes_0 := by decide +kernel
theorem dksX4_takes_1 : cX4_takes.data.toList.drop 22 = dktX4_takes_1 := dk_seg dksX4_takes_0 22 rfl rfl
theorem dksX4_takes_2 : cX4_takes.data.toList.drop 44 = dktX4_takes_2 := dk_seg dksX4_takes_1 22 rfl rfl
theorem dX4_takes_0 : decode cX4_takes 0 = .ok (.aload_n 0, 1) := dk_42 (dk_at dksX4_takes_0 0 rfl rfl)
theorem dX4_takes_1 : decode cX4_takes 1 = .ok (.aload_n 1, 1) := dk_43 (dk_at dksX4_takes_0 1 rfl rfl)
theorem dX4_takes_2 : decode cX4_takes 2 = .ok (.getfield 16, 3) := dk_180 0 16 (dk_at dksX4_takes_0 2 rfl rfl)
theorem dX4_takes_5 : decode cX4_takes 5 = .ok (.putfield 16, 3) := dk_181 0 16 (dk_at dksX4_takes_0 5 rfl rfl)
theorem dX4_takes_8 : decode cX4_takes 8 = .ok (.iconst 0, 1) := dk_3 (dk_at dksX4_takes_0 8 rfl rfl)
theorem dX4_takes_9 : decode cX4_takes 9 = .ok (.istore_n 2, 1) := dk_61 (dk_at dksX4_takes_0 9 rfl rfl)
theorem dX4_takes_10 : decode cX4_takes 10 = .ok (.iload_n 2, 1) := dk_28 (dk_at dksX4_takes_0 10 rfl rfl)
theorem dX4_takes_11 : decode cX4_takes 11 = .ok (.aload_n 0, 1) := dk_42 (dk_at dksX4_takes_0 11 rfl rfl)
theorem dX4_takes_12 : decode cX4_takes 12 = .ok (.getfield 16, 3) := dk_180 0 16 (dk_at dksX4_takes_0 12 rfl rfl)
theorem dX4_takes_15 : decode cX4_takes 15 = .ok (.if_icmp .ge 38, 3) := dk_162 0 38 (dk_at dksX4_takes_0 15 rfl rfl)
theorem dX4_takes_18 : decode cX4_takes 18 = .ok (.iconst 0, 1) := dk_3 (dk_at dksX4_takes_0 18 rfl rfl)
theorem dX4_takes_19 : decode cX4_takes 19 = .ok (.istore_n 3, 1) := dk_62 (dk_at dksX4_takes_0 19 rfl rfl)
theorem dX4_takes_20 : decode cX4_takes 20 = .ok (.iload_n 3, 1) := dk_29 (dk_at dksX4_takes_0 20 rfl rfl)
theorem dX4_takes_21 : decode cX4_takes 21 = .ok (.iconst 3, 1) := dk_6 (dk_at dksX4_takes_0 21 rfl rfl)
theorem dX4_takes_22 : decode cX4_takes 22 = .ok (.if_icmp .ge 25, 3) := dk_162 0 25 (dk_at dksX4_takes_1 0 rfl rfl)
theorem dX4_takes_25 : decode cX4_takes 25 = .ok (.aload_n 0, 1) := dk_42 (dk_at dksX4_takes_1 3 rfl rfl)
theorem dX4_takes_26 : decode cX4_takes 26 = .ok (.getfield 11, 3) := dk_180 0 11 (dk_at dksX4_takes_1 4 rfl rfl)
theorem dX4_takes_29 : decode cX4_takes 29 = .ok (.iload_n 2, 1) := dk_28 (dk_at dksX4_takes_1 7 rfl rfl)
theorem dX4_takes_30 : decode cX4_takes 30 = .ok (.aaload, 1) := dk_50 (dk_at dksX4_takes_1 8 rfl rfl)
theorem dX4_takes_31 : decode cX4_takes 31 = .ok (.iload_n 3, 1) := dk_29 (dk_at dksX4_takes_1 9 rfl rfl)
theorem dX4_takes_32 : decode cX4_takes 32 = .ok (.aload_n 1, 1) := dk_43 (dk_at dksX4_takes_1 10 rfl rfl)
theorem dX4_takes_33 : decode cX4_takes 33 = .ok (.getfield 11, 3) := dk_180 0 11 (dk_at dksX4_takes_1 11 rfl rfl)
theorem dX4_takes_36 : decode cX4_takes 36 = .ok (.iload_n 2, 1) := dk_28 (dk_at dksX4_takes_1 14 rfl rfl)
theorem dX4_takes_37 : decode cX4_takes 37 = .ok (.aaload, 1) := dk_50 (dk_at dksX4_takes_1 15 rfl rfl)
theorem dX4_takes_38 : decode cX4_takes 38 = .ok (.iload_n 3, 1) := dk_29 (dk_at dksX4_takes_1 16 rfl rfl)
theorem dX4_takes_39 : decode cX4_takes 39 = .ok (.iaload, 1) := dk_46 (dk_at dksX4_takes_1 17 rfl rfl)
theorem dX4_takes_40 : decode cX4_takes 40 = .ok (.iastore, 1) := dk_79 (dk_at dksX4_takes_1 18 rfl rfl)
theorem dX4_takes_41 : decode cX4_takes 41 = .ok (.iinc 3 1, 3) := dk_132 3 1 (dk_at dksX4_takes_1 19 rfl rfl)
theorem dX4_takes_44 : decode cX4_takes 44 = .ok (.goto (-24), 3) := dk_167 255 232 (dk_at dksX4_takes_2 0 rfl rfl)
theorem dX4_takes_47 : decode cX4_takes 47 = .ok (.iinc 2 1, 3) := dk_132 2 1 (dk_at dksX4_takes_2 3 rfl rfl)
theorem dX4_takes_50 : decode cX4_takes 50 = .ok (.goto (-40), 3) := dk_167 255 216 (dk_at dksX4_takes_2 6 rfl rfl)
theorem dX4_takes_53 : decode cX4_takes 53 = .ok (.return_, 1) := dk_177 (dk_at dksX4_takes_2 9 rfl rfl)
theorem q147 : (Jvm.Cond.initialized "KindPostman$Rows") ∈ lw_all := lw_g (lw_at lw_m1 5 rfl) rfl
theorem q246 : (Jvm.Cond.instantiable "KindPostman$Rows" (2 : Nat)) ∈ lw_all := lw_g (lw_at lw_m1 104 rfl) rfl
theorem q248 : (Jvm.Cond.instanceMethod ({ cls := "KindPostman$Rows", name := "<init>", desc := "(I)V" } : Jvm.MethodName)) ∈ lw_all := lw_g (lw_at lw_m1 106 rfl) rfl
theorem q249 : (Jvm.Cond.code ({ cls := "KindPostman$Rows", name := "<init>", desc := "(I)V" } : Jvm.MethodName) prog_14_method_1_code (2 : Nat) (Option.none : Option Jvm.ClassFile.FieldType)) ∈ lw_all := lw_g (lw_at lw_m1 107 rfl) rfl
theorem q250 : (Jvm.Cond.methodLink "KindPostman$Rows" (3 : Nat) ({ cls := "java/lang/Object", name := "<init>", desc := "()V" } : Jvm.MethodName)) ∈ lw_all := lw_g (lw_at lw_m1 108 rfl) rfl
theorem q251 : (Jvm.Cond.classLink "KindPostman$Rows" (9 : Nat) "[[I") ∈ lw_all := lw_g (lw_at lw_m1 109 rfl) rfl
theorem q252 : (Jvm.Cond.fieldLink "KindPostman$Rows" (11 : Nat) "KindPostman$Rows" "row" "[[I") ∈ lw_all := lw_g (lw_at lw_m1 110 rfl) rfl
theorem q254 : (Jvm.Cond.fieldLink "KindPostman$Rows" (16 : Nat) "KindPostman$Rows" "many" "I") ∈ lw_all := lw_g (lw_at lw_m1 112 rfl) rfl
theorem q256 : (Jvm.Cond.laysFinal "KindPostman$Rows" "KindPostman$Rows" "row" "[[I") ∈ lw_all := lw_g (lw_at lw_m1 114 rfl) rfl
theorem q257 : (Jvm.Cond.soleField "KindPostman$Rows" "row") ∈ lw_all := lw_g (lw_at lw_m1 115 rfl) rfl
theorem q258 : (Jvm.Cond.lays "KindPostman$Rows" "KindPostman$Rows" "many" "I") ∈ lw_all := lw_g (lw_at lw_m1 116 rfl) rfl
theorem q259 : (Jvm.Cond.soleField "KindPostman$Rows" "many") ∈ lw_all := lw_g (lw_at lw_m1 117 rfl) rfl
theorem q260 : (Jvm.Cond.superclass "KindPostman$Rows" "java/lang/Object") ∈ lw_all := lw_g (lw_at lw_m1 118 rfl) rfl
theorem q890 : (Jvm.Cond.selects "KindPostman$Rows" ({ cls := "java/lang/Object", name := "getClass", desc := "()Ljava/lang/Class;" } : Jvm.MethodName) ({ cls := "java/lang/Object", name := "getClass", desc := "()Ljava/lang/Class;" } : Jvm.MethodName)) ∈ lw_all := lw_g (lw_at lw_m4 28 rfl) rfl
theorem q1230 : (Jvm.Cond.instanceMethod ({ cls := "KindPostman$Rows", name := "ends", desc := "()I" } : Jvm.MethodName)) ∈ lw_all := lw_g (lw_at lw_m5 128 rfl) rfl
theorem q1231 : (Jvm.Cond.selects "KindPostman$Rows" ({ cls := "KindPostman$Rows", name := "ends", desc := "()I" } : Jvm.MethodName) ({ cls := "KindPostman$Rows", name := "ends", desc := "()I" } : Jvm.MethodName)) ∈ lw_all := lw_g (lw_at lw_m5 129 rfl) rfl
theorem q1232 : (Jvm.Cond.code ({ cls := "KindPostman$Rows", name := "ends", desc := "()I" } : Jvm.MethodName) prog_14_method_3_code (1 : Nat) (Option.some Jvm.ClassFile.FieldType.int)) ∈ lw_all := lw_g (lw_at lw_m5 130 rfl) rfl
theorem q1234 : (Jvm.Cond.instanceMethod ({ cls := "KindPostman$Rows", name := "tells", desc := "(III)I" } : Jvm.MethodName)) ∈ lw_all := lw_g (lw_at lw_m5 132 rfl) rfl
theorem q1235 : (Jvm.Cond.selects "KindPostman$Rows" ({ cls := "KindPostman$Rows", name := "tells", desc := "(III)I" } : Jvm.MethodName) ({ cls := "KindPostman$Rows", name := "tells", desc := "(III)I" } : Jvm.MethodName)) ∈ lw_all := lw_g (lw_at lw_m5 133 rfl) rfl
theorem q1236 : (Jvm.Cond.code ({ cls := "KindPostman$Rows", name := "tells", desc := "(III)I" } : Jvm.MethodName) prog_14_method_2_code (4 : Nat) (Option.some Jvm.ClassFile.FieldType.int)) ∈ lw_all := lw_g (lw_at lw_m5 134 rfl) rfl
theorem q1349 : (Jvm.Cond.instanceMethod ({ cls := "KindPostman$Rows", name := "takes", desc := "(LKindPostman$Rows;)V" } : Jvm.MethodName)) ∈ lw_all := lw_g (lw_at lw_m6 7 rfl) rfl
theorem q1350 : (Jvm.Cond.selects "KindPostman$Rows" ({ cls := "KindPostman$Rows", name := "takes", desc := "(LKindPostman$Rows;)V" } : Jvm.MethodName) ({ cls := "KindPostman$Rows", name := "takes", desc := "(LKindPostman$Rows;)V" } : Jvm.MethodName)) ∈ lw_all := lw_g (lw_at lw_m6 8 rfl) rfl
theorem q1351 : (Jvm.Cond.code ({ cls := "KindPostman$Rows", name := "takes", desc := "(LKindPostman$Rows;)V" } : Jvm.MethodName) prog_14_method_4_code (4 : Nat) (Option.none : Option Jvm.ClassFile.FieldType)) ∈ lw_all := lw_g (lw_at lw_m6 9 rfl) rfl
theorem q2079 : (Jvm.Cond.castable "KindPostman$Rows" "java/lang/Object") ∈ lw_tbl := lw_at lw_m9 17 rfl
theorem in_X4 : ∀ w ∈ wsX40, w ∈ lw_all := lw_in wsX40 [256, 258] (by decide +kernel) (by decide +kernel)
/-! KindPostman$Door -/
set_option maxRecDepth 100000
def RX5 : String := "KindPostman$Door"
def TX5 : u_T := fun k => match k with
  | 0 => ("KindPostman$Door", "face", "I", false)
  | 1 => ("KindPostman$Door", "love", "I", false)
  | 2 => ("KindPostman$Door", "purse", "I", false)
  | _ => ("KindPostman$Door", "got", "I", false)
def tyX5 : Nat → FieldType := fun k => match k with
  | 0 => .int
  | 1 => .int
  | 2 => .int
  | _ => .int
abbrev wsX50 : List Cond := u_ws RX5 TX5 4
theorem nmX5 : ∀ a, a < 4 → ∀ b, b < 4 → a ≠ b → (TX5 a).2.1 ≠ (TX5 b).2.1 := by decide +kernel
theorem tyX5_ok : ∀ k, k < 4 → parseFieldDescriptor (TX5 k).2.2.1 = some (tyX5 k) := by decide +kernel
abbrev cX5_init : ByteArray := prog_4_method_1_code
def yX5_init : MethodName := ⟨RX5, "<init>", "()V"⟩
theorem dX5_init_0 : decode cX5_init 0 = .ok (.aload_n 0, 1) := by decide +kernel
theorem dX5_init_1 : decode cX5_init 1 = .ok (.invokespecial 1, 3) := by decide +kernel
theorem dX5_init_4 : decode cX5_init 4 = .ok (.return_, 1) := by decide +kernel
abbrev cX5_takes : ByteArray := prog_4_method_3_code
def yX5_takes : MethodName := ⟨RX5, "takes", "(LKindPostman$Door;)V"⟩
def dkwX5_takes_1 : List UInt8 := [177]
abbrev dktX5_takes_1 : List UInt8 := dkwX5_takes_1 ++ []
def dkwX5_takes_0 : List UInt8 := [42, 43, 180, 0, 7, 43, 180, 0, 13, 43, 180, 0, 16, 182, 0, 22, 42, 43, 180, 0, 19, 181, 0, 19]
abbrev dktX5_takes_0 : List UInt8 := dkwX5_takes_0 ++ dktX5_takes_1
theorem dksX5_takes_0 : cX5_takes.data.toList.drop 0 = dktX5_takes_0 := by decide +kernel
theorem dksX5_takes_1 : cX5_takes.data.toList.drop 24 = dktX5_takes_1 := dk_seg dksX5_takes_0 24 rfl rfl
theorem dX5_takes_0 : decode cX5_takes 0 = .ok (.aload_n 0, 1) := dk_42 (dk_at dksX5_takes_0 0 rfl rfl)
theorem dX5_takes_1 : decode cX5_takes 1 = .ok (.aload_n 1, 1) := dk_43 (dk_at dksX5_takes_0 1 rfl rfl)
theorem dX5_takes_2 : decode cX5_takes 2 = .ok (.getfield 7, 3) := dk_180 0 7 (dk_at dksX5_takes_0 2 rfl rfl)
theorem dX5_takes_5 : decode cX5_takes 5 = .ok (.aload_n 1, 1) := dk_43 (dk_at dksX5_takes_0 5 rfl rfl)
theorem dX5_takes_6 : decode cX5_takes 6 = .ok (.getfield 13, 3) := dk_180 0 13 (dk_at dksX5_takes_0 6 rfl rfl)
theorem dX5_takes_9 : decode cX5_takes 9 = .ok (.aload_n 1, 1) := dk_43 (dk_at dksX5_takes_0 9 rfl rfl)
theorem dX5_takes_10 : decode cX5_takes 10 = .ok (.getfield 16, 3) := dk_180 0 16 (dk_at dksX5_takes_0 10 rfl rfl)
theorem dX5_takes_13 : decode cX5_takes 13 = .ok (.invokevirtual 22, 3) := dk_182 0 22 (dk_at dksX5_takes_0 13 rfl rfl)
theorem dX5_takes_16 : decode cX5_takes 16 = .ok (.aload_n 0, 1) := dk_42 (dk_at dksX5_takes_0 16 rfl rfl)
theorem dX5_takes_17 : decode cX5_takes 17 = .ok (.aload_n 1, 1) := dk_43 (dk_at dksX5_takes_0 17 rfl rfl)
theorem dX5_takes_18 : decode cX5_takes 18 = .ok (.getfield 19, 3) := dk_180 0 19 (dk_at dksX5_takes_0 18 rfl rfl)
theorem dX5_takes_21 : decode cX5_takes 21 = .ok (.putfield 19, 3) := dk_181 0 19 (dk_at dksX5_takes_0 21 rfl rfl)
theorem dX5_takes_24 : decode cX5_takes 24 = .ok (.return_, 1) := dk_177 (dk_at dksX5_takes_1 0 rfl rfl)
abbrev cX5_begins : ByteArray := prog_4_method_2_code
def yX5_begins : MethodName := ⟨RX5, "begins", "(III)V"⟩
def dkwX5_begins_0 : List UInt8 := [42, 27, 181, 0, 7, 42, 28, 181, 0, 13, 42, 29, 181, 0, 16, 42, 3, 181, 0, 19, 177]
abbrev dktX5_begins_0 : List UInt8 := dkwX5_begins_0 ++ []
theorem dksX5_begins_0 : cX5_begins.data.toList.drop 0 = dktX5_begins_0 := by decide +kernel
theorem dX5_begins_0 : decode cX5_begins 0 = .ok (.aload_n 0, 1) := dk_42 (dk_at dksX5_begins_0 0 rfl rfl)
theorem dX5_begins_1 : decode cX5_begins 1 = .ok (.iload_n 1, 1) := dk_27 (dk_at dksX5_begins_0 1 rfl rfl)
theorem dX5_begins_2 : decode cX5_begins 2 = .ok (.putfield 7, 3) := dk_181 0 7 (dk_at dksX5_begins_0 2 rfl rfl)
theorem dX5_begins_5 : decode cX5_begins 5 = .ok (.aload_n 0, 1) := dk_42 (dk_at dksX5_begins_0 5 rfl rfl)
theorem dX5_begins_6 : decode cX5_begins 6 = .ok (.iload_n 2, 1) := dk_28 (dk_at dksX5_begins_0 6 rfl rfl)
theorem dX5_begins_7 : decode cX5_begins 7 = .ok (.putfield 13, 3) := dk_181 0 13 (dk_at dksX5_begins_0 7 rfl rfl)
theorem dX5_begins_10 : decode cX5_begins 10 = .ok (.aload_n 0, 1) := dk_42 (dk_at dksX5_begins_0 10 rfl rfl)
theorem dX5_begins_11 : decode cX5_begins 11 = .ok (.iload_n 3, 1) := dk_29 (dk_at dksX5_begins_0 11 rfl rfl)
theorem dX5_begins_12 : decode cX5_begins 12 = .ok (.putfield 16, 3) := dk_181 0 16 (dk_at dksX5_begins_0 12 rfl rfl)
theorem dX5_begins_15 : decode cX5_begins 15 = .ok (.aload_n 0, 1) := dk_42 (dk_at dksX5_begins_0 15 rfl rfl)
theorem dX5_begins_16 : decode cX5_begins 16 = .ok (.iconst 0, 1) := dk_3 (dk_at dksX5_begins_0 16 rfl rfl)
theorem dX5_begins_17 : decode cX5_begins 17 = .ok (.putfield 19, 3) := dk_181 0 19 (dk_at dksX5_begins_0 17 rfl rfl)
theorem dX5_begins_20 : decode cX5_begins 20 = .ok (.return_, 1) := dk_177 (dk_at dksX5_begins_0 20 rfl rfl)
abbrev cX5_looks : ByteArray := prog_4_method_4_code
def yX5_looks : MethodName := ⟨RX5, "looks", "(I)V"⟩
def dkwX5_looks_0 : List UInt8 := [42, 42, 180, 0, 7, 27, 96, 16, 247, 16, 9, 184, 0, 26, 181, 0, 7, 177]
abbrev dktX5_looks_0 : List UInt8 := dkwX5_looks_0 ++ []
theorem dksX5_looks_0 : cX5_looks.data.toList.drop 0 = dktX5_looks_0 := by decide +kernel
theorem dX5_looks_0 : decode cX5_looks 0 = .ok (.aload_n 0, 1) := dk_42 (dk_at dksX5_looks_0 0 rfl rfl)
theorem dX5_looks_1 : decode cX5_looks 1 = .ok (.aload_n 0, 1) := dk_42 (dk_at dksX5_looks_0 1 rfl rfl)
theorem dX5_looks_2 : decode cX5_looks 2 = .ok (.getfield 7, 3) := dk_180 0 7 (dk_at dksX5_looks_0 2 rfl rfl)
theorem dX5_looks_5 : decode cX5_looks 5 = .ok (.iload_n 1, 1) := dk_27 (dk_at dksX5_looks_0 5 rfl rfl)
theorem dX5_looks_6 : decode cX5_looks 6 = .ok (.iadd, 1) := dk_96 (dk_at dksX5_looks_0 6 rfl rfl)
theorem dX5_looks_7 : decode cX5_looks 7 = .ok (.bipush (-9), 2) := dk_16 247 (dk_at dksX5_looks_0 7 rfl rfl)
theorem dX5_looks_9 : decode cX5_looks 9 = .ok (.bipush 9, 2) := dk_16 9 (dk_at dksX5_looks_0 9 rfl rfl)
theorem dX5_looks_11 : decode cX5_looks 11 = .ok (.invokestatic 26, 3) := dk_184 0 26 (dk_at dksX5_looks_0 11 rfl rfl)
theorem dX5_looks_14 : decode cX5_looks 14 = .ok (.putfield 7, 3) := dk_181 0 7 (dk_at dksX5_looks_0 14 rfl rfl)
theorem dX5_looks_17 : decode cX5_looks 17 = .ok (.return_, 1) := dk_177 (dk_at dksX5_looks_0 17 rfl rfl)
abbrev cX5_calms : ByteArray := prog_4_method_5_code
def yX5_calms : MethodName := ⟨RX5, "calms", "()V"⟩
def dkwX5_calms_0 : List UInt8 := [42, 89, 180, 0, 7, 42, 180, 0, 7, 184, 0, 32, 100, 181, 0, 7, 177]
abbrev dktX5_calms_0 : List UInt8 := dkwX5_calms_0 ++ []
theorem dksX5_calms_0 : cX5_calms.data.toList.drop 0 = dktX5_calms_0 := by decide +kernel
theorem dX5_calms_0 : decode cX5_calms 0 = .ok (.aload_n 0, 1) := dk_42 (dk_at dksX5_calms_0 0 rfl rfl)
theorem dX5_calms_1 : decode cX5_calms 1 = .ok (.dup, 1) := dk_89 (dk_at dksX5_calms_0 1 rfl rfl)
theorem dX5_calms_2 : decode cX5_calms 2 = .ok (.getfield 7, 3) := dk_180 0 7 (dk_at dksX5_calms_0 2 rfl rfl)
theorem dX5_calms_5 : decode cX5_calms 5 = .ok (.aload_n 0, 1) := dk_42 (dk_at dksX5_calms_0 5 rfl rfl)
theorem dX5_calms_6 : decode cX5_calms 6 = .ok (.getfield 7, 3) := dk_180 0 7 (dk_at dksX5_calms_0 6 rfl rfl)
theorem dX5_calms_9 : decode cX5_calms 9 = .ok (.invokestatic 32, 3) := dk_184 0 32 (dk_at dksX5_calms_0 9 rfl rfl)
theorem dX5_calms_12 : decode cX5_calms 12 = .ok (.isub, 1) := dk_100 (dk_at dksX5_calms_0 12 rfl rfl)
theorem dX5_calms_13 : decode cX5_calms 13 = .ok (.putfield 7, 3) := dk_181 0 7 (dk_at dksX5_calms_0 13 rfl rfl)
theorem dX5_calms_16 : decode cX5_calms 16 = .ok (.return_, 1) := dk_177 (dk_at dksX5_calms_0 16 rfl rfl)
theorem q151 : (Jvm.Cond.initialized "KindPostman$Door") ∈ lw_all := lw_g (lw_at lw_m1 9 rfl) rfl
theorem q288 : (Jvm.Cond.instantiable "KindPostman$Door" (4 : Nat)) ∈ lw_all := lw_g (lw_at lw_m1 146 rfl) rfl
theorem q290 : (Jvm.Cond.instanceMethod ({ cls := "KindPostman$Door", name := "<init>", desc := "()V" } : Jvm.MethodName)) ∈ lw_all := lw_g (lw_at lw_m1 148 rfl) rfl
theorem q291 : (Jvm.Cond.code ({ cls := "KindPostman$Door", name := "<init>", desc := "()V" } : Jvm.MethodName) prog_4_method_1_code (1 : Nat) (Option.none : Option Jvm.ClassFile.FieldType)) ∈ lw_all := lw_g (lw_at lw_m1 149 rfl) rfl
theorem q292 : (Jvm.Cond.methodLink "KindPostman$Door" (1 : Nat) ({ cls := "java/lang/Object", name := "<init>", desc := "()V" } : Jvm.MethodName)) ∈ lw_all := lw_g (lw_at lw_m1 150 rfl) rfl
theorem q293 : (Jvm.Cond.fieldLink "KindPostman$Door" (7 : Nat) "KindPostman$Door" "face" "I") ∈ lw_all := lw_g (lw_at lw_m1 151 rfl) rfl
theorem q296 : (Jvm.Cond.fieldLink "KindPostman$Door" (13 : Nat) "KindPostman$Door" "love" "I") ∈ lw_all := lw_g (lw_at lw_m1 154 rfl) rfl
theorem q299 : (Jvm.Cond.fieldLink "KindPostman$Door" (16 : Nat) "KindPostman$Door" "purse" "I") ∈ lw_all := lw_g (lw_at lw_m1 157 rfl) rfl
theorem q302 : (Jvm.Cond.fieldLink "KindPostman$Door" (19 : Nat) "KindPostman$Door" "got" "I") ∈ lw_all := lw_g (lw_at lw_m1 160 rfl) rfl
theorem q305 : (Jvm.Cond.lays "KindPostman$Door" "KindPostman$Door" "face" "I") ∈ lw_all := lw_g (lw_at lw_m1 163 rfl) rfl
theorem q306 : (Jvm.Cond.soleField "KindPostman$Door" "face") ∈ lw_all := lw_g (lw_at lw_m1 164 rfl) rfl
theorem q307 : (Jvm.Cond.lays "KindPostman$Door" "KindPostman$Door" "love" "I") ∈ lw_all := lw_g (lw_at lw_m1 165 rfl) rfl
theorem q308 : (Jvm.Cond.soleField "KindPostman$Door" "love") ∈ lw_all := lw_g (lw_at lw_m1 166 rfl) rfl
theorem q309 : (Jvm.Cond.lays "KindPostman$Door" "KindPostman$Door" "purse" "I") ∈ lw_all := lw_g (lw_at lw_m1 167 rfl) rfl
theorem q310 : (Jvm.Cond.soleField "KindPostman$Door" "purse") ∈ lw_all := lw_g (lw_at lw_m1 168 rfl) rfl
theorem q311 : (Jvm.Cond.lays "KindPostman$Door" "KindPostman$Door" "got" "I") ∈ lw_all := lw_g (lw_at lw_m1 169 rfl) rfl
theorem q312 : (Jvm.Cond.soleField "KindPostman$Door" "got") ∈ lw_all := lw_g (lw_at lw_m1 170 rfl) rfl
theorem q313 : (Jvm.Cond.superclass "KindPostman$Door" "java/lang/Object") ∈ lw_all := lw_g (lw_at lw_m1 171 rfl) rfl
theorem q880 : (Jvm.Cond.selects "KindPostman$Door" ({ cls := "java/lang/Object", name := "getClass", desc := "()Ljava/lang/Class;" } : Jvm.MethodName) ({ cls := "java/lang/Object", name := "getClass", desc := "()Ljava/lang/Class;" } : Jvm.MethodName)) ∈ lw_all := lw_g (lw_at lw_m4 18 rfl) rfl
theorem q971 : (Jvm.Cond.instanceMethod ({ cls := "KindPostman$Door", name := "takes", desc := "(LKindPostman$Door;)V" } : Jvm.MethodName)) ∈ lw_all := lw_g (lw_at lw_m4 109 rfl) rfl
theorem q972 : (Jvm.Cond.selects "KindPostman$Door" ({ cls := "KindPostman$Door", name := "takes", desc := "(LKindPostman$Door;)V" } : Jvm.MethodName) ({ cls := "KindPostman$Door", name := "takes", desc := "(LKindPostman$Door;)V" } : Jvm.MethodName)) ∈ lw_all := lw_g (lw_at lw_m4 110 rfl) rfl
theorem q973 : (Jvm.Cond.code ({ cls := "KindPostman$Door", name := "takes", desc := "(LKindPostman$Door;)V" } : Jvm.MethodName) prog_4_method_3_code (2 : Nat) (Option.none : Option Jvm.ClassFile.FieldType)) ∈ lw_all := lw_g (lw_at lw_m4 111 rfl) rfl
theorem q974 : (Jvm.Cond.methodLink "KindPostman$Door" (22 : Nat) ({ cls := "KindPostman$Door", name := "begins", desc := "(III)V" } : Jvm.MethodName)) ∈ lw_all := lw_g (lw_at lw_m4 112 rfl) rfl
theorem q975 : (Jvm.Cond.instanceMethod ({ cls := "KindPostman$Door", name := "begins", desc := "(III)V" } : Jvm.MethodName)) ∈ lw_all := lw_g (lw_at lw_m4 113 rfl) rfl
theorem q976 : (Jvm.Cond.selects "KindPostman$Door" ({ cls := "KindPostman$Door", name := "begins", desc := "(III)V" } : Jvm.MethodName) ({ cls := "KindPostman$Door", name := "begins", desc := "(III)V" } : Jvm.MethodName)) ∈ lw_all := lw_g (lw_at lw_m4 114 rfl) rfl
theorem q977 : (Jvm.Cond.code ({ cls := "KindPostman$Door", name := "begins", desc := "(III)V" } : Jvm.MethodName) prog_4_method_2_code (4 : Nat) (Option.none : Option Jvm.ClassFile.FieldType)) ∈ lw_all := lw_g (lw_at lw_m4 115 rfl) rfl
theorem q1121 : (Jvm.Cond.instanceMethod ({ cls := "KindPostman$Door", name := "looks", desc := "(I)V" } : Jvm.MethodName)) ∈ lw_all := lw_g (lw_at lw_m5 19 rfl) rfl
theorem q1122 : (Jvm.Cond.selects "KindPostman$Door" ({ cls := "KindPostman$Door", name := "looks", desc := "(I)V" } : Jvm.MethodName) ({ cls := "KindPostman$Door", name := "looks", desc := "(I)V" } : Jvm.MethodName)) ∈ lw_all := lw_g (lw_at lw_m5 20 rfl) rfl
theorem q1123 : (Jvm.Cond.code ({ cls := "KindPostman$Door", name := "looks", desc := "(I)V" } : Jvm.MethodName) prog_4_method_4_code (2 : Nat) (Option.none : Option Jvm.ClassFile.FieldType)) ∈ lw_all := lw_g (lw_at lw_m5 21 rfl) rfl
theorem q1124 : (Jvm.Cond.methodLinkNest "KindPostman$Door" (26 : Nat) ({ cls := "KindPostman", name := "held", desc := "(III)I" } : Jvm.MethodName) "KindPostman") ∈ lw_tbl := lw_at lw_m5 22 rfl
theorem q1162 : (Jvm.Cond.instanceMethod ({ cls := "KindPostman$Door", name := "calms", desc := "()V" } : Jvm.MethodName)) ∈ lw_all := lw_g (lw_at lw_m5 60 rfl) rfl
theorem q1163 : (Jvm.Cond.selects "KindPostman$Door" ({ cls := "KindPostman$Door", name := "calms", desc := "()V" } : Jvm.MethodName) ({ cls := "KindPostman$Door", name := "calms", desc := "()V" } : Jvm.MethodName)) ∈ lw_all := lw_g (lw_at lw_m5 61 rfl) rfl
theorem q1164 : (Jvm.Cond.code ({ cls := "KindPostman$Door", name := "calms", desc := "()V" } : Jvm.MethodName) prog_4_method_5_code (1 : Nat) (Option.none : Option Jvm.ClassFile.FieldType)) ∈ lw_all := lw_g (lw_at lw_m5 62 rfl) rfl
theorem q1165 : (Jvm.Cond.methodLink "KindPostman$Door" (32 : Nat) ({ cls := "java/lang/Integer", name := "signum", desc := "(I)I" } : Jvm.MethodName)) ∈ lw_all := lw_g (lw_at lw_m5 63 rfl) rfl
theorem q2074 : (Jvm.Cond.castable "KindPostman$Door" "java/lang/Object") ∈ lw_tbl := lw_at lw_m9 12 rfl
theorem in_X5 : ∀ w ∈ wsX50, w ∈ lw_all := lw_in wsX50 [305, 307, 309, 311] (by decide +kernel) (by decide +kernel)
theorem q142 : (Jvm.Cond.initialized "KindPostmanLaw") ∈ lw_all := lw_g (lw_at lw_m1 0 rfl) rfl
set_option maxRecDepth 100000
theorem q174 : (Jvm.Cond.classLink "KindPostmanLaw" (7 : Nat) "KindPostman") ∈ lw_all := lw_g (lw_at lw_m1 32 rfl) rfl
theorem q176 : (Jvm.Cond.methodLink "KindPostmanLaw" (9 : Nat) ({ cls := "KindPostman", name := "<init>", desc := "()V" } : Jvm.MethodName)) ∈ lw_all := lw_g (lw_at lw_m1 34 rfl) rfl
theorem q488 : (Jvm.Cond.methodLink "KindPostmanLaw" (45 : Nat) ({ cls := "KindPostman", name := "feed", desc := "(IIIII)I" } : Jvm.MethodName)) ∈ lw_all := lw_g (lw_at lw_m2 106 rfl) rfl
theorem q496 : (Jvm.Cond.methodLink "KindPostmanLaw" (50 : Nat) ({ cls := "KindPostman", name := "end", desc := "(I)Z" } : Jvm.MethodName)) ∈ lw_all := lw_g (lw_at lw_m2 114 rfl) rfl
theorem q503 : (Jvm.Cond.methodLink "KindPostmanLaw" (54 : Nat) ({ cls := "KindPostman", name := "text", desc := "(I)I" } : Jvm.MethodName)) ∈ lw_all := lw_g (lw_at lw_m2 121 rfl) rfl
theorem q958 : (Jvm.Cond.methodLink "KindPostmanLaw" (58 : Nat) ({ cls := "KindPostman", name := "fault", desc := "(I)I" } : Jvm.MethodName)) ∈ lw_all := lw_g (lw_at lw_m4 96 rfl) rfl
theorem q962 : (Jvm.Cond.methodLink "KindPostmanLaw" (153 : Nat) ({ cls := "KindPostman", name := "undo", desc := "()Z" } : Jvm.MethodName)) ∈ lw_all := lw_g (lw_at lw_m4 100 rfl) rfl
theorem q990 : (Jvm.Cond.methodLink "KindPostmanLaw" (13 : Nat) ({ cls := "KindPostman", name := "state", desc := "(I)I" } : Jvm.MethodName)) ∈ lw_all := lw_g (lw_at lw_m4 128 rfl) rfl
theorem q994 : (Jvm.Cond.methodLink "KindPostmanLaw" (18 : Nat) ({ cls := "KindPostman", name := "door", desc := "(III)I" } : Jvm.MethodName)) ∈ lw_all := lw_g (lw_at lw_m4 132 rfl) rfl
theorem q1003 : (Jvm.Cond.methodLink "KindPostmanLaw" (23 : Nat) ({ cls := "KindPostman", name := "set", desc := "(III)Z" } : Jvm.MethodName)) ∈ lw_all := lw_g (lw_at lw_m4 141 rfl) rfl
theorem q1015 : (Jvm.Cond.methodLink "KindPostmanLaw" (28 : Nat) ({ cls := "KindPostman", name := "post", desc := "(III)I" } : Jvm.MethodName)) ∈ lw_all := lw_g (lw_at lw_m4 153 rfl) rfl
theorem q1039 : (Jvm.Cond.methodLink "KindPostmanLaw" (32 : Nat) ({ cls := "KindPostman", name := "bring", desc := "(I)I" } : Jvm.MethodName)) ∈ lw_all := lw_g (lw_at lw_m4 177 rfl) rfl
theorem q1134 : (Jvm.Cond.methodLink "KindPostmanLaw" (36 : Nat) ({ cls := "KindPostman", name := "rain", desc := "(I)Z" } : Jvm.MethodName)) ∈ lw_all := lw_g (lw_at lw_m5 32 rfl) rfl
theorem q1138 : (Jvm.Cond.methodLink "KindPostmanLaw" (41 : Nat) ({ cls := "KindPostman", name := "days", desc := "(I)I" } : Jvm.MethodName)) ∈ lw_all := lw_g (lw_at lw_m5 36 rfl) rfl
theorem q1168 : (Jvm.Cond.methodLink "KindPostmanLaw" (62 : Nat) ({ cls := "KindPostman", name := "of", desc := "(II)I" } : Jvm.MethodName)) ∈ lw_all := lw_g (lw_at lw_m5 66 rfl) rfl
theorem q1180 : (Jvm.Cond.methodLink "KindPostmanLaw" (67 : Nat) ({ cls := "KindPostman", name := "letter", desc := "(II)I" } : Jvm.MethodName)) ∈ lw_all := lw_g (lw_at lw_m5 78 rfl) rfl
theorem q1187 : (Jvm.Cond.methodLink "KindPostmanLaw" (71 : Nat) ({ cls := "KindPostman", name := "given", desc := "(I)I" } : Jvm.MethodName)) ∈ lw_all := lw_g (lw_at lw_m5 85 rfl) rfl
theorem q1191 : (Jvm.Cond.methodLink "KindPostmanLaw" (75 : Nat) ({ cls := "KindPostman", name := "book", desc := "(II)I" } : Jvm.MethodName)) ∈ lw_all := lw_g (lw_at lw_m5 89 rfl) rfl
theorem q1195 : (Jvm.Cond.methodLink "KindPostmanLaw" (79 : Nat) ({ cls := "KindPostman", name := "goes", desc := "(II)I" } : Jvm.MethodName)) ∈ lw_all := lw_g (lw_at lw_m5 93 rfl) rfl
theorem q1204 : (Jvm.Cond.methodLink "KindPostmanLaw" (83 : Nat) ({ cls := "KindPostman", name := "shortest", desc := "(II)I" } : Jvm.MethodName)) ∈ lw_all := lw_g (lw_at lw_m5 102 rfl) rfl
theorem q1221 : (Jvm.Cond.methodLink "KindPostmanLaw" (133 : Nat) ({ cls := "KindPostman", name := "box", desc := "(I)I" } : Jvm.MethodName)) ∈ lw_all := lw_g (lw_at lw_m5 119 rfl) rfl
theorem q1225 : (Jvm.Cond.methodLink "KindPostmanLaw" (87 : Nat) ({ cls := "KindPostman", name := "blow", desc := "(I)I" } : Jvm.MethodName)) ∈ lw_all := lw_g (lw_at lw_m5 123 rfl) rfl
theorem q1237 : (Jvm.Cond.methodLink "KindPostmanLaw" (91 : Nat) ({ cls := "KindPostman", name := "bears", desc := "(II)I" } : Jvm.MethodName)) ∈ lw_all := lw_g (lw_at lw_m5 135 rfl) rfl
theorem q1251 : (Jvm.Cond.methodLink "KindPostmanLaw" (95 : Nat) ({ cls := "KindPostman", name := "carries", desc := "(II)I" } : Jvm.MethodName)) ∈ lw_all := lw_g (lw_at lw_m5 149 rfl) rfl
theorem q1260 : (Jvm.Cond.methodLink "KindPostmanLaw" (99 : Nat) ({ cls := "KindPostman", name := "owes", desc := "(III)I" } : Jvm.MethodName)) ∈ lw_all := lw_g (lw_at lw_m5 158 rfl) rfl
theorem q1264 : (Jvm.Cond.methodLink "KindPostmanLaw" (103 : Nat) ({ cls := "KindPostman", name := "net", desc := "(I)I" } : Jvm.MethodName)) ∈ lw_all := lw_g (lw_at lw_m5 162 rfl) rfl
theorem q1276 : (Jvm.Cond.methodLink "KindPostmanLaw" (107 : Nat) ({ cls := "KindPostman", name := "chain", desc := "(IIII)I" } : Jvm.MethodName)) ∈ lw_all := lw_g (lw_at lw_m5 174 rfl) rfl
theorem q1280 : (Jvm.Cond.methodLink "KindPostmanLaw" (112 : Nat) ({ cls := "KindPostman", name := "has", desc := "(II)Z" } : Jvm.MethodName)) ∈ lw_all := lw_g (lw_at lw_m5 178 rfl) rfl
theorem q1284 : (Jvm.Cond.methodLink "KindPostmanLaw" (117 : Nat) ({ cls := "KindPostman", name := "spell", desc := "(I)I" } : Jvm.MethodName)) ∈ lw_all := lw_g (lw_at lw_m5 182 rfl) rfl
theorem q1288 : (Jvm.Cond.methodLink "KindPostmanLaw" (121 : Nat) ({ cls := "KindPostman", name := "lays", desc := "(I)I" } : Jvm.MethodName)) ∈ lw_all := lw_g (lw_at lw_m5 186 rfl) rfl
theorem q1296 : (Jvm.Cond.methodLink "KindPostmanLaw" (125 : Nat) ({ cls := "KindPostman", name := "answer", desc := "(II)I" } : Jvm.MethodName)) ∈ lw_all := lw_g (lw_at lw_m5 194 rfl) rfl
theorem q1300 : (Jvm.Cond.methodLink "KindPostmanLaw" (129 : Nat) ({ cls := "KindPostman", name := "likely", desc := "(II)I" } : Jvm.MethodName)) ∈ lw_all := lw_g (lw_at lw_m5 198 rfl) rfl
theorem q1312 : (Jvm.Cond.methodLink "KindPostmanLaw" (137 : Nat) ({ cls := "KindPostman", name := "face", desc := "(II)I" } : Jvm.MethodName)) ∈ lw_all := lw_g (lw_at lw_m5 210 rfl) rfl
theorem q1316 : (Jvm.Cond.methodLink "KindPostmanLaw" (141 : Nat) ({ cls := "KindPostman", name := "faces", desc := "(I)I" } : Jvm.MethodName)) ∈ lw_all := lw_g (lw_at lw_m5 214 rfl) rfl
theorem q1330 : (Jvm.Cond.methodLink "KindPostmanLaw" (145 : Nat) ({ cls := "KindPostman", name := "joy", desc := "(I)I" } : Jvm.MethodName)) ∈ lw_all := lw_g (lw_at lw_m5 228 rfl) rfl
theorem q1335 : (Jvm.Cond.methodLink "KindPostmanLaw" (149 : Nat) ({ cls := "KindPostman", name := "game", desc := "(I)I" } : Jvm.MethodName)) ∈ lw_all := lw_g (lw_at lw_m5 233 rfl) rfl
theorem q1339 : (Jvm.Cond.methodLink "KindPostmanLaw" (158 : Nat) ({ cls := "KindPostman", name := "image", desc := "(Z)Z" } : Jvm.MethodName)) ∈ lw_all := lw_g (lw_at lw_m5 237 rfl) rfl
theorem q1352 : (Jvm.Cond.methodLink "KindPostmanLaw" (163 : Nat) ({ cls := "KindPostman", name := "look", desc := "(I)I" } : Jvm.MethodName)) ∈ lw_all := lw_g (lw_at lw_m6 10 rfl) rfl
theorem q1356 : (Jvm.Cond.classLink "KindPostmanLaw" (10 : Nat) "KindPostmanModel") ∈ lw_all := lw_g (lw_at lw_m6 14 rfl) rfl
theorem q1358 : (Jvm.Cond.methodLink "KindPostmanLaw" (12 : Nat) ({ cls := "KindPostmanModel", name := "<init>", desc := "()V" } : Jvm.MethodName)) ∈ lw_all := lw_g (lw_at lw_m6 16 rfl) rfl
theorem q1555 : (Jvm.Cond.methodLink "KindPostmanLaw" (157 : Nat) ({ cls := "KindPostmanModel", name := "undo", desc := "()Z" } : Jvm.MethodName)) ∈ lw_all := lw_g (lw_at lw_m6 213 rfl) rfl
theorem q1559 : (Jvm.Cond.methodLink "KindPostmanLaw" (17 : Nat) ({ cls := "KindPostmanModel", name := "state", desc := "(I)I" } : Jvm.MethodName)) ∈ lw_all := lw_g (lw_at lw_m6 217 rfl) rfl
theorem q1563 : (Jvm.Cond.methodLink "KindPostmanLaw" (22 : Nat) ({ cls := "KindPostmanModel", name := "door", desc := "(III)I" } : Jvm.MethodName)) ∈ lw_all := lw_g (lw_at lw_m6 221 rfl) rfl
theorem q1571 : (Jvm.Cond.methodLink "KindPostmanLaw" (27 : Nat) ({ cls := "KindPostmanModel", name := "set", desc := "(III)Z" } : Jvm.MethodName)) ∈ lw_all := lw_g (lw_at lw_m6 229 rfl) rfl
theorem q1591 : (Jvm.Cond.methodLink "KindPostmanLaw" (49 : Nat) ({ cls := "KindPostmanModel", name := "feed", desc := "(IIIII)I" } : Jvm.MethodName)) ∈ lw_all := lw_g (lw_at lw_m7 9 rfl) rfl
theorem q1599 : (Jvm.Cond.methodLink "KindPostmanLaw" (53 : Nat) ({ cls := "KindPostmanModel", name := "end", desc := "(I)Z" } : Jvm.MethodName)) ∈ lw_all := lw_g (lw_at lw_m7 17 rfl) rfl
theorem q1603 : (Jvm.Cond.methodLink "KindPostmanLaw" (57 : Nat) ({ cls := "KindPostmanModel", name := "text", desc := "(I)I" } : Jvm.MethodName)) ∈ lw_all := lw_g (lw_at lw_m7 21 rfl) rfl
theorem q1735 : (Jvm.Cond.methodLink "KindPostmanLaw" (61 : Nat) ({ cls := "KindPostmanModel", name := "fault", desc := "(I)I" } : Jvm.MethodName)) ∈ lw_all := lw_g (lw_at lw_m7 153 rfl) rfl
theorem q1739 : (Jvm.Cond.methodLink "KindPostmanLaw" (31 : Nat) ({ cls := "KindPostmanModel", name := "post", desc := "(III)I" } : Jvm.MethodName)) ∈ lw_all := lw_g (lw_at lw_m7 157 rfl) rfl
theorem q1759 : (Jvm.Cond.methodLink "KindPostmanLaw" (35 : Nat) ({ cls := "KindPostmanModel", name := "bring", desc := "(I)I" } : Jvm.MethodName)) ∈ lw_all := lw_g (lw_at lw_m7 177 rfl) rfl
theorem q1841 : (Jvm.Cond.methodLink "KindPostmanLaw" (40 : Nat) ({ cls := "KindPostmanModel", name := "rain", desc := "(I)Z" } : Jvm.MethodName)) ∈ lw_all := lw_g (lw_at lw_m8 19 rfl) rfl
theorem q1845 : (Jvm.Cond.methodLink "KindPostmanLaw" (44 : Nat) ({ cls := "KindPostmanModel", name := "days", desc := "(I)I" } : Jvm.MethodName)) ∈ lw_all := lw_g (lw_at lw_m8 23 rfl) rfl
theorem q1877 : (Jvm.Cond.methodLink "KindPostmanLaw" (66 : Nat) ({ cls := "KindPostmanModel", name := "of", desc := "(II)I" } : Jvm.MethodName)) ∈ lw_all := lw_g (lw_at lw_m8 55 rfl) rfl
theorem q1885 : (Jvm.Cond.methodLink "KindPostmanLaw" (70 : Nat) ({ cls := "KindPostmanModel", name := "letter", desc := "(II)I" } : Jvm.MethodName)) ∈ lw_all := lw_g (lw_at lw_m8 63 rfl) rfl
theorem q1889 : (Jvm.Cond.methodLink "KindPostmanLaw" (74 : Nat) ({ cls := "KindPostmanModel", name := "given", desc := "(I)I" } : Jvm.MethodName)) ∈ lw_all := lw_g (lw_at lw_m8 67 rfl) rfl
theorem q1893 : (Jvm.Cond.methodLink "KindPostmanLaw" (78 : Nat) ({ cls := "KindPostmanModel", name := "book", desc := "(II)I" } : Jvm.MethodName)) ∈ lw_all := lw_g (lw_at lw_m8 71 rfl) rfl
theorem q1897 : (Jvm.Cond.methodLink "KindPostmanLaw" (82 : Nat) ({ cls := "KindPostmanModel", name := "goes", desc := "(II)I" } : Jvm.MethodName)) ∈ lw_all := lw_g (lw_at lw_m8 75 rfl) rfl
theorem q1909 : (Jvm.Cond.methodLink "KindPostmanLaw" (86 : Nat) ({ cls := "KindPostmanModel", name := "shortest", desc := "(II)I" } : Jvm.MethodName)) ∈ lw_all := lw_g (lw_at lw_m8 87 rfl) rfl
theorem q1926 : (Jvm.Cond.methodLink "KindPostmanLaw" (136 : Nat) ({ cls := "KindPostmanModel", name := "box", desc := "(I)I" } : Jvm.MethodName)) ∈ lw_all := lw_g (lw_at lw_m8 104 rfl) rfl
theorem q1934 : (Jvm.Cond.methodLink "KindPostmanLaw" (90 : Nat) ({ cls := "KindPostmanModel", name := "blow", desc := "(I)I" } : Jvm.MethodName)) ∈ lw_all := lw_g (lw_at lw_m8 112 rfl) rfl
theorem q1938 : (Jvm.Cond.methodLink "KindPostmanLaw" (94 : Nat) ({ cls := "KindPostmanModel", name := "bears", desc := "(II)I" } : Jvm.MethodName)) ∈ lw_all := lw_g (lw_at lw_m8 116 rfl) rfl
theorem q1950 : (Jvm.Cond.methodLink "KindPostmanLaw" (98 : Nat) ({ cls := "KindPostmanModel", name := "carries", desc := "(II)I" } : Jvm.MethodName)) ∈ lw_all := lw_g (lw_at lw_m8 128 rfl) rfl
theorem q1963 : (Jvm.Cond.methodLink "KindPostmanLaw" (102 : Nat) ({ cls := "KindPostmanModel", name := "owes", desc := "(III)I" } : Jvm.MethodName)) ∈ lw_all := lw_g (lw_at lw_m8 141 rfl) rfl
theorem q1967 : (Jvm.Cond.methodLink "KindPostmanLaw" (106 : Nat) ({ cls := "KindPostmanModel", name := "net", desc := "(I)I" } : Jvm.MethodName)) ∈ lw_all := lw_g (lw_at lw_m8 145 rfl) rfl
theorem q1983 : (Jvm.Cond.methodLink "KindPostmanLaw" (111 : Nat) ({ cls := "KindPostmanModel", name := "chain", desc := "(IIII)I" } : Jvm.MethodName)) ∈ lw_all := lw_g (lw_at lw_m8 161 rfl) rfl
theorem q1987 : (Jvm.Cond.methodLink "KindPostmanLaw" (116 : Nat) ({ cls := "KindPostmanModel", name := "has", desc := "(II)Z" } : Jvm.MethodName)) ∈ lw_all := lw_g (lw_at lw_m8 165 rfl) rfl
theorem q1991 : (Jvm.Cond.methodLink "KindPostmanLaw" (120 : Nat) ({ cls := "KindPostmanModel", name := "spell", desc := "(I)I" } : Jvm.MethodName)) ∈ lw_all := lw_g (lw_at lw_m8 169 rfl) rfl
theorem q1995 : (Jvm.Cond.methodLink "KindPostmanLaw" (124 : Nat) ({ cls := "KindPostmanModel", name := "lays", desc := "(I)I" } : Jvm.MethodName)) ∈ lw_all := lw_g (lw_at lw_m8 173 rfl) rfl
theorem q2003 : (Jvm.Cond.methodLink "KindPostmanLaw" (128 : Nat) ({ cls := "KindPostmanModel", name := "answer", desc := "(II)I" } : Jvm.MethodName)) ∈ lw_all := lw_g (lw_at lw_m8 181 rfl) rfl
theorem q2007 : (Jvm.Cond.methodLink "KindPostmanLaw" (132 : Nat) ({ cls := "KindPostmanModel", name := "likely", desc := "(II)I" } : Jvm.MethodName)) ∈ lw_all := lw_g (lw_at lw_m8 185 rfl) rfl
theorem q2019 : (Jvm.Cond.methodLink "KindPostmanLaw" (140 : Nat) ({ cls := "KindPostmanModel", name := "face", desc := "(II)I" } : Jvm.MethodName)) ∈ lw_all := lw_g (lw_at lw_m8 197 rfl) rfl
theorem q2023 : (Jvm.Cond.methodLink "KindPostmanLaw" (144 : Nat) ({ cls := "KindPostmanModel", name := "faces", desc := "(I)I" } : Jvm.MethodName)) ∈ lw_all := lw_g (lw_at lw_m8 201 rfl) rfl
theorem q2039 : (Jvm.Cond.methodLink "KindPostmanLaw" (148 : Nat) ({ cls := "KindPostmanModel", name := "joy", desc := "(I)I" } : Jvm.MethodName)) ∈ lw_all := lw_g (lw_at lw_m8 217 rfl) rfl
theorem q2044 : (Jvm.Cond.methodLink "KindPostmanLaw" (152 : Nat) ({ cls := "KindPostmanModel", name := "game", desc := "(I)I" } : Jvm.MethodName)) ∈ lw_all := lw_g (lw_at lw_m8 222 rfl) rfl
theorem q2048 : (Jvm.Cond.methodLink "KindPostmanLaw" (162 : Nat) ({ cls := "KindPostmanModel", name := "image", desc := "(Z)Z" } : Jvm.MethodName)) ∈ lw_all := lw_g (lw_at lw_m8 226 rfl) rfl
theorem q2068 : (Jvm.Cond.methodLink "KindPostmanLaw" (166 : Nat) ({ cls := "KindPostmanModel", name := "look", desc := "(I)I" } : Jvm.MethodName)) ∈ lw_all := lw_g (lw_at lw_m9 6 rfl) rfl
theorem q1087 : (Jvm.Cond.interfaceMethod "KindPostman$Asker" "KindPostman$Asker" "fact" "(I)I") ∈ lw_tbl := lw_at lw_m4 225 rfl
set_option maxRecDepth 100000
theorem q1088 : (Jvm.Cond.declares ({ cls := "KindPostman$Asker", name := "fact", desc := "(I)I" } : Jvm.MethodName)) ∈ lw_tbl := lw_at lw_m4 226 rfl
theorem q2097 : (Jvm.Cond.castable "[B" "java/lang/Object") ∈ lw_tbl := lw_at lw_m9 35 rfl
set_option maxRecDepth 100000
theorem q2099 : (Jvm.Cond.castable "[I" "java/lang/Object") ∈ lw_tbl := lw_at lw_m9 37 rfl
set_option maxRecDepth 100000
theorem q2095 : (Jvm.Cond.castable "[LKindPostman$Door;" "java/lang/Object") ∈ lw_tbl := lw_at lw_m9 33 rfl
set_option maxRecDepth 100000
theorem q2096 : (Jvm.Cond.castable "[LKindPostman$Letter;" "java/lang/Object") ∈ lw_tbl := lw_at lw_m9 34 rfl
set_option maxRecDepth 100000
theorem q2100 : (Jvm.Cond.castable "[LKindPostman$Walk;" "java/lang/Object") ∈ lw_tbl := lw_at lw_m9 38 rfl
set_option maxRecDepth 100000
theorem q2092 : (Jvm.Cond.sameMethod "[Ljava/lang/Object;" "java/lang/Object" "getClass" "()Ljava/lang/Class;") ∈ lw_all := lw_g (lw_at lw_m9 30 rfl) rfl
set_option maxRecDepth 100000
theorem q2093 : (Jvm.Cond.selects "[Ljava/lang/Object;" ({ cls := "java/lang/Object", name := "getClass", desc := "()Ljava/lang/Class;" } : Jvm.MethodName) ({ cls := "java/lang/Object", name := "getClass", desc := "()Ljava/lang/Class;" } : Jvm.MethodName)) ∈ lw_all := lw_g (lw_at lw_m9 31 rfl) rfl
theorem q2101 : (Jvm.Cond.castable "[Ljava/lang/Object;" "java/lang/Object") ∈ lw_tbl := lw_at lw_m9 39 rfl
theorem q2098 : (Jvm.Cond.castable "[[I" "java/lang/Object") ∈ lw_tbl := lw_at lw_m9 36 rfl
set_option maxRecDepth 100000
theorem q172 : (Jvm.Cond.initialized "java/lang/System") ∈ lw_all := lw_g (lw_at lw_m1 30 rfl) rfl
set_option maxRecDepth 100000
theorem q905 : (Jvm.Cond.static ({ cls := "java/lang/System", name := "arraycopy", desc := "(Ljava/lang/Object;ILjava/lang/Object;II)V" } : Jvm.MethodName)) ∈ lw_all := lw_g (lw_at lw_m4 43 rfl) rfl
theorem q906 : (Jvm.Cond.native ({ cls := "java/lang/System", name := "arraycopy", desc := "(Ljava/lang/Object;ILjava/lang/Object;II)V" } : Jvm.MethodName)) ∈ lw_all := lw_g (lw_at lw_m4 44 rfl) rfl
theorem q189 : (Jvm.Cond.arrayOver (Jvm.ClassFile.FieldType.object "KindPostman$Door")) ∈ lw_tbl := lw_at lw_m1 47 rfl
set_option maxRecDepth 100000
theorem q197 : (Jvm.Cond.arrayOver (Jvm.ClassFile.FieldType.object "KindPostman$Letter")) ∈ lw_tbl := lw_at lw_m1 55 rfl
theorem q231 : (Jvm.Cond.arrayClass Jvm.ClassFile.FieldType.byte) ∈ lw_all := lw_g (lw_at lw_m1 89 rfl) rfl
theorem q244 : (Jvm.Cond.arrayOver (Jvm.ClassFile.FieldType.array Jvm.ClassFile.FieldType.int)) ∈ lw_tbl := lw_at lw_m1 102 rfl
theorem q261 : (Jvm.Cond.arrayClass Jvm.ClassFile.FieldType.int) ∈ lw_all := lw_g (lw_at lw_m1 119 rfl) rfl
theorem q431 : (Jvm.Cond.arrayOver (Jvm.ClassFile.FieldType.object "KindPostman$Walk")) ∈ lw_tbl := lw_at lw_m2 49 rfl
theorem q899 : (Jvm.Cond.arrayOver (Jvm.ClassFile.FieldType.object "java/lang/Object")) ∈ lw_tbl := lw_at lw_m4 37 rfl
