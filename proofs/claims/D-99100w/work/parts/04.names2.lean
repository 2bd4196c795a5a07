/-! KindPostman$Reader -/
set_option maxRecDepth 100000
def RX7 : String := "KindPostman$Reader"
def TX7 : u_T := fun k => match k with
  | 0 => ("KindPostman$Reader", "which", "I", true)
  | 1 => ("KindPostman$Reader", "round", "[I", true)
  | 2 => ("KindPostman$Reader", "street", "[I", true)
  | 3 => ("KindPostman$Reader", "at", "I", false)
  | 4 => ("KindPostman$Reader", "start", "I", false)
  | 5 => ("KindPostman$Reader", "token", "I", false)
  | 6 => ("KindPostman$Reader", "value", "I", false)
  | 7 => ("KindPostman$Reader", "open", "I", false)
  | 8 => ("KindPostman$Reader", "told", "I", false)
  | _ => ("KindPostman$Reader", "this$0", "LKindPostman;", true)
def tyX7 : Nat → FieldType := fun k => match k with
  | 0 => .int
  | 1 => .array .int
  | 2 => .array .int
  | 3 => .int
  | 4 => .int
  | 5 => .int
  | 6 => .int
  | 7 => .int
  | 8 => .int
  | _ => .object "KindPostman"
abbrev wsX70 : List Cond := u_ws RX7 TX7 10
theorem nmX7 : ∀ a, a < 10 → ∀ b, b < 10 → a ≠ b → (TX7 a).2.1 ≠ (TX7 b).2.1 := by decide +kernel
theorem tyX7_ok : ∀ k, k < 10 → parseFieldDescriptor (TX7 k).2.2.1 = some (tyX7 k) := by decide +kernel
abbrev cX7_init : ByteArray := prog_13_method_1_code
def yX7_init : MethodName := ⟨RX7, "<init>", "(LKindPostman;I)V"⟩
def dkwX7_init_2 : List UInt8 := [2, 79, 132, 3, 1, 167, 255, 237, 177]
abbrev dktX7_init_2 : List UInt8 := dkwX7_init_2 ++ []
def dkwX7_init_1 : List UInt8 := [181, 0, 19, 42, 28, 181, 0, 22, 3, 62, 29, 42, 180, 0, 19, 190, 162, 0, 16, 42, 180, 0, 19, 29]
abbrev dktX7_init_1 : List UInt8 := dkwX7_init_1 ++ dktX7_init_2
def dkwX7_init_0 : List UInt8 := [42, 43, 181, 0, 3, 42, 183, 0, 9, 42, 16, 16, 188, 10, 181, 0, 15, 42, 17, 0, 144, 188, 10]
abbrev dktX7_init_0 : List UInt8 := dkwX7_init_0 ++ dktX7_init_1
theorem dksX7_init_0 : cX7_init.data.toList.drop 0 = dktX7_init_0 := by decide +kernel
theorem dksX7_init_1 : cX7_init.data.toList.drop 23 = dktX7_init_1 := dk_seg dksX7_init_0 23 rfl rfl
theorem dksX7_init_2 : cX7_init.data.toList.drop 47 = dktX7_init_2 := dk_seg dksX7_init_1 24 rfl rfl
theorem dX7_init_0 : decode cX7_init 0 = .ok (.aload_n 0, 1) := dk_42 (dk_at dksX7_init_0 0 rfl rfl)
theorem dX7_init_1 : decode cX7_init 1 = .ok (.aload_n 1, 1) := dk_43 (dk_at dksX7_init_0 1 rfl rfl)
theorem dX7_init_2 : decode cX7_init 2 = .ok (.putfield 3, 3) := dk_181 0 3 (dk_at dksX7_init_0 2 rfl rfl)
theorem dX7_init_5 : decode cX7_init 5 = .ok (.aload_n 0, 1) := dk_42 (dk_at dksX7_init_0 5 rfl rfl)
theorem dX7_init_6 : decode cX7_init 6 = .ok (.invokespecial 9, 3) := dk_183 0 9 (dk_at dksX7_init_0 6 rfl rfl)
theorem dX7_init_9 : decode cX7_init 9 = .ok (.aload_n 0, 1) := dk_42 (dk_at dksX7_init_0 9 rfl rfl)
theorem dX7_init_10 : decode cX7_init 10 = .ok (.bipush 16, 2) := dk_16 16 (dk_at dksX7_init_0 10 rfl rfl)
theorem dX7_init_12 : decode cX7_init 12 = .ok (.newarray .int, 2) := dk_188_10 (dk_at dksX7_init_0 12 rfl rfl)
theorem dX7_init_14 : decode cX7_init 14 = .ok (.putfield 15, 3) := dk_181 0 15 (dk_at dksX7_init_0 14 rfl rfl)
theorem dX7_init_17 : decode cX7_init 17 = .ok (.aload_n 0, 1) := dk_42 (dk_at dksX7_init_0 17 rfl rfl)
theorem dX7_init_18 : decode cX7_init 18 = .ok (.sipush 144, 3) := dk_17 0 144 (dk_at dksX7_init_0 18 rfl rfl)
theorem dX7_init_21 : decode cX7_init 21 = .ok (.newarray .int, 2) := dk_188_10 (dk_at dksX7_init_0 21 rfl rfl)
theorem dX7_init_23 : decode cX7_init 23 = .ok (.putfield 19, 3) := dk_181 0 19 (dk_at dksX7_init_1 0 rfl rfl)
theorem dX7_init_26 : decode cX7_init 26 = .ok (.aload_n 0, 1) := dk_42 (dk_at dksX7_init_1 3 rfl rfl)
theorem dX7_init_27 : decode cX7_init 27 = .ok (.iload_n 2, 1) := dk_28 (dk_at dksX7_init_1 4 rfl rfl)
theorem dX7_init_28 : decode cX7_init 28 = .ok (.putfield 22, 3) := dk_181 0 22 (dk_at dksX7_init_1 5 rfl rfl)
theorem dX7_init_31 : decode cX7_init 31 = .ok (.iconst 0, 1) := dk_3 (dk_at dksX7_init_1 8 rfl rfl)
theorem dX7_init_32 : decode cX7_init 32 = .ok (.istore_n 3, 1) := dk_62 (dk_at dksX7_init_1 9 rfl rfl)
theorem dX7_init_33 : decode cX7_init 33 = .ok (.iload_n 3, 1) := dk_29 (dk_at dksX7_init_1 10 rfl rfl)
theorem dX7_init_34 : decode cX7_init 34 = .ok (.aload_n 0, 1) := dk_42 (dk_at dksX7_init_1 11 rfl rfl)
theorem dX7_init_35 : decode cX7_init 35 = .ok (.getfield 19, 3) := dk_180 0 19 (dk_at dksX7_init_1 12 rfl rfl)
theorem dX7_init_38 : decode cX7_init 38 = .ok (.arraylength, 1) := dk_190 (dk_at dksX7_init_1 15 rfl rfl)
theorem dX7_init_39 : decode cX7_init 39 = .ok (.if_icmp .ge 16, 3) := dk_162 0 16 (dk_at dksX7_init_1 16 rfl rfl)
theorem dX7_init_42 : decode cX7_init 42 = .ok (.aload_n 0, 1) := dk_42 (dk_at dksX7_init_1 19 rfl rfl)
theorem dX7_init_43 : decode cX7_init 43 = .ok (.getfield 19, 3) := dk_180 0 19 (dk_at dksX7_init_1 20 rfl rfl)
theorem dX7_init_46 : decode cX7_init 46 = .ok (.iload_n 3, 1) := dk_29 (dk_at dksX7_init_1 23 rfl rfl)
theorem dX7_init_47 : decode cX7_init 47 = .ok (.iconst (-1), 1) := dk_2 (dk_at dksX7_init_2 0 rfl rfl)
theorem dX7_init_48 : decode cX7_init 48 = .ok (.iastore, 1) := dk_79 (dk_at dksX7_init_2 1 rfl rfl)
theorem dX7_init_49 : decode cX7_init 49 = .ok (.iinc 3 1, 3) := dk_132 3 1 (dk_at dksX7_init_2 2 rfl rfl)
theorem dX7_init_52 : decode cX7_init 52 = .ok (.goto (-19), 3) := dk_167 255 237 (dk_at dksX7_init_2 5 rfl rfl)
theorem dX7_init_55 : decode cX7_init 55 = .ok (.return_, 1) := dk_177 (dk_at dksX7_init_2 8 rfl rfl)
abbrev cX7_law : ByteArray := prog_13_method_22_code
def yX7_law : MethodName := ⟨RX7, "law", "()Ljava/util/ArrayList;"⟩
def dkwX7_law_5 : List UInt8 := [187, 0, 217, 89, 28, 45, 25, 4, 183, 0, 219, 182, 0, 222, 87, 167, 255, 138, 43, 176]
abbrev dktX7_law_5 : List UInt8 := dkwX7_law_5 ++ []
def dkwX7_law_4 : List UInt8 := [180, 0, 126, 6, 160, 0, 13, 42, 182, 0, 137, 42, 182, 0, 202, 58, 4, 42, 16, 59, 182, 0, 205, 43]
abbrev dktX7_law_4 : List UInt8 := dkwX7_law_4 ++ dktX7_law_5
def dkwX7_law_3 : List UInt8 := [180, 0, 126, 61, 42, 3, 181, 0, 166, 42, 182, 0, 137, 42, 182, 0, 208, 78, 1, 58, 4, 42]
abbrev dktX7_law_3 : List UInt8 := dkwX7_law_3 ++ dktX7_law_4
def dkwX7_law_2 : List UInt8 := [182, 0, 214, 16, 16, 160, 0, 16, 187, 0, 129, 89, 6, 42, 180, 0, 44, 183, 0, 131, 191, 42]
abbrev dktX7_law_2 : List UInt8 := dkwX7_law_2 ++ dktX7_law_3
def dkwX7_law_1 : List UInt8 := [16, 7, 16, 9, 184, 0, 40, 154, 0, 16, 187, 0, 129, 89, 4, 42, 180, 0, 44, 183, 0, 131, 191, 43]
abbrev dktX7_law_1 : List UInt8 := dkwX7_law_1 ++ dktX7_law_2
def dkwX7_law_0 : List UInt8 := [187, 0, 211, 89, 183, 0, 213, 76, 42, 182, 0, 137, 42, 180, 0, 126, 153, 0, 117, 42, 180, 0, 126]
abbrev dktX7_law_0 : List UInt8 := dkwX7_law_0 ++ dktX7_law_1
theorem dksX7_law_0 : cX7_law.data.toList.drop 0 = dktX7_law_0 := by decide +kernel
theorem dksX7_law_1 : cX7_law.data.toList.drop 23 = dktX7_law_1 := dk_seg dksX7_law_0 23 rfl rfl
theorem dksX7_law_2 : cX7_law.data.toList.drop 47 = dktX7_law_2 := dk_seg dksX7_law_1 24 rfl rfl
theorem dksX7_law_3 : cX7_law.data.toList.drop 69 = dktX7_law_3 := dk_seg dksX7_law_2 22 rfl rfl
theorem dksX7_law_4 : cX7_law.data.toList.drop 91 = dktX7_law_4 := dk_seg dksX7_law_3 22 rfl rfl
theorem dksX7_law_5 : cX7_law.data.toList.drop 115 = dktX7_law_5 := dk_seg dksX7_law_4 24 rfl rfl
theorem dX7_law_0 : decode cX7_law 0 = .ok (.new 211, 3) := dk_187 0 211 (dk_at dksX7_law_0 0 rfl rfl)
theorem dX7_law_3 : decode cX7_law 3 = .ok (.dup, 1) := dk_89 (dk_at dksX7_law_0 3 rfl rfl)
theorem dX7_law_4 : decode cX7_law 4 = .ok (.invokespecial 213, 3) := dk_183 0 213 (dk_at dksX7_law_0 4 rfl rfl)
theorem dX7_law_7 : decode cX7_law 7 = .ok (.astore_n 1, 1) := dk_76 (dk_at dksX7_law_0 7 rfl rfl)
theorem dX7_law_8 : decode cX7_law 8 = .ok (.aload_n 0, 1) := dk_42 (dk_at dksX7_law_0 8 rfl rfl)
theorem dX7_law_9 : decode cX7_law 9 = .ok (.invokevirtual 137, 3) := dk_182 0 137 (dk_at dksX7_law_0 9 rfl rfl)
theorem dX7_law_12 : decode cX7_law 12 = .ok (.aload_n 0, 1) := dk_42 (dk_at dksX7_law_0 12 rfl rfl)
theorem dX7_law_13 : decode cX7_law 13 = .ok (.getfield 126, 3) := dk_180 0 126 (dk_at dksX7_law_0 13 rfl rfl)
theorem dX7_law_16 : decode cX7_law 16 = .ok (.ifCond .eq 117, 3) := dk_153 0 117 (dk_at dksX7_law_0 16 rfl rfl)
theorem dX7_law_19 : decode cX7_law 19 = .ok (.aload_n 0, 1) := dk_42 (dk_at dksX7_law_0 19 rfl rfl)
theorem dX7_law_20 : decode cX7_law 20 = .ok (.getfield 126, 3) := dk_180 0 126 (dk_at dksX7_law_0 20 rfl rfl)
theorem dX7_law_23 : decode cX7_law 23 = .ok (.bipush 7, 2) := dk_16 7 (dk_at dksX7_law_1 0 rfl rfl)
theorem dX7_law_25 : decode cX7_law 25 = .ok (.bipush 9, 2) := dk_16 9 (dk_at dksX7_law_1 2 rfl rfl)
theorem dX7_law_27 : decode cX7_law 27 = .ok (.invokestatic 40, 3) := dk_184 0 40 (dk_at dksX7_law_1 4 rfl rfl)
theorem dX7_law_30 : decode cX7_law 30 = .ok (.ifCond .ne 16, 3) := dk_154 0 16 (dk_at dksX7_law_1 7 rfl rfl)
theorem dX7_law_33 : decode cX7_law 33 = .ok (.new 129, 3) := dk_187 0 129 (dk_at dksX7_law_1 10 rfl rfl)
theorem dX7_law_36 : decode cX7_law 36 = .ok (.dup, 1) := dk_89 (dk_at dksX7_law_1 13 rfl rfl)
theorem dX7_law_37 : decode cX7_law 37 = .ok (.iconst 1, 1) := dk_4 (dk_at dksX7_law_1 14 rfl rfl)
theorem dX7_law_38 : decode cX7_law 38 = .ok (.aload_n 0, 1) := dk_42 (dk_at dksX7_law_1 15 rfl rfl)
theorem dX7_law_39 : decode cX7_law 39 = .ok (.getfield 44, 3) := dk_180 0 44 (dk_at dksX7_law_1 16 rfl rfl)
theorem dX7_law_42 : decode cX7_law 42 = .ok (.invokespecial 131, 3) := dk_183 0 131 (dk_at dksX7_law_1 19 rfl rfl)
theorem dX7_law_45 : decode cX7_law 45 = .ok (.athrow, 1) := dk_191 (dk_at dksX7_law_1 22 rfl rfl)
theorem dX7_law_46 : decode cX7_law 46 = .ok (.aload_n 1, 1) := dk_43 (dk_at dksX7_law_1 23 rfl rfl)
theorem dX7_law_47 : decode cX7_law 47 = .ok (.invokevirtual 214, 3) := dk_182 0 214 (dk_at dksX7_law_2 0 rfl rfl)
theorem dX7_law_50 : decode cX7_law 50 = .ok (.bipush 16, 2) := dk_16 16 (dk_at dksX7_law_2 3 rfl rfl)
theorem dX7_law_52 : decode cX7_law 52 = .ok (.if_icmp .ne 16, 3) := dk_160 0 16 (dk_at dksX7_law_2 5 rfl rfl)
theorem dX7_law_55 : decode cX7_law 55 = .ok (.new 129, 3) := dk_187 0 129 (dk_at dksX7_law_2 8 rfl rfl)
theorem dX7_law_58 : decode cX7_law 58 = .ok (.dup, 1) := dk_89 (dk_at dksX7_law_2 11 rfl rfl)
theorem dX7_law_59 : decode cX7_law 59 = .ok (.iconst 3, 1) := dk_6 (dk_at dksX7_law_2 12 rfl rfl)
theorem dX7_law_60 : decode cX7_law 60 = .ok (.aload_n 0, 1) := dk_42 (dk_at dksX7_law_2 13 rfl rfl)
theorem dX7_law_61 : decode cX7_law 61 = .ok (.getfield 44, 3) := dk_180 0 44 (dk_at dksX7_law_2 14 rfl rfl)
theorem dX7_law_64 : decode cX7_law 64 = .ok (.invokespecial 131, 3) := dk_183 0 131 (dk_at dksX7_law_2 17 rfl rfl)
theorem dX7_law_67 : decode cX7_law 67 = .ok (.athrow, 1) := dk_191 (dk_at dksX7_law_2 20 rfl rfl)
theorem dX7_law_68 : decode cX7_law 68 = .ok (.aload_n 0, 1) := dk_42 (dk_at dksX7_law_2 21 rfl rfl)
theorem dX7_law_69 : decode cX7_law 69 = .ok (.getfield 126, 3) := dk_180 0 126 (dk_at dksX7_law_3 0 rfl rfl)
theorem dX7_law_72 : decode cX7_law 72 = .ok (.istore_n 2, 1) := dk_61 (dk_at dksX7_law_3 3 rfl rfl)
theorem dX7_law_73 : decode cX7_law 73 = .ok (.aload_n 0, 1) := dk_42 (dk_at dksX7_law_3 4 rfl rfl)
theorem dX7_law_74 : decode cX7_law 74 = .ok (.iconst 0, 1) := dk_3 (dk_at dksX7_law_3 5 rfl rfl)
theorem dX7_law_75 : decode cX7_law 75 = .ok (.putfield 166, 3) := dk_181 0 166 (dk_at dksX7_law_3 6 rfl rfl)
theorem dX7_law_78 : decode cX7_law 78 = .ok (.aload_n 0, 1) := dk_42 (dk_at dksX7_law_3 9 rfl rfl)
theorem dX7_law_79 : decode cX7_law 79 = .ok (.invokevirtual 137, 3) := dk_182 0 137 (dk_at dksX7_law_3 10 rfl rfl)
theorem dX7_law_82 : decode cX7_law 82 = .ok (.aload_n 0, 1) := dk_42 (dk_at dksX7_law_3 13 rfl rfl)
theorem dX7_law_83 : decode cX7_law 83 = .ok (.invokevirtual 208, 3) := dk_182 0 208 (dk_at dksX7_law_3 14 rfl rfl)
theorem dX7_law_86 : decode cX7_law 86 = .ok (.astore_n 3, 1) := dk_78 (dk_at dksX7_law_3 17 rfl rfl)
theorem dX7_law_87 : decode cX7_law 87 = .ok (.aconst_null, 1) := dk_1 (dk_at dksX7_law_3 18 rfl rfl)
theorem dX7_law_88 : decode cX7_law 88 = .ok (.astore 4, 2) := dk_58 4 (dk_at dksX7_law_3 19 rfl rfl)
theorem dX7_law_90 : decode cX7_law 90 = .ok (.aload_n 0, 1) := dk_42 (dk_at dksX7_law_3 21 rfl rfl)
theorem dX7_law_91 : decode cX7_law 91 = .ok (.getfield 126, 3) := dk_180 0 126 (dk_at dksX7_law_4 0 rfl rfl)
theorem dX7_law_94 : decode cX7_law 94 = .ok (.iconst 3, 1) := dk_6 (dk_at dksX7_law_4 3 rfl rfl)
theorem dX7_law_95 : decode cX7_law 95 = .ok (.if_icmp .ne 13, 3) := dk_160 0 13 (dk_at dksX7_law_4 4 rfl rfl)
theorem dX7_law_98 : decode cX7_law 98 = .ok (.aload_n 0, 1) := dk_42 (dk_at dksX7_law_4 7 rfl rfl)
theorem dX7_law_99 : decode cX7_law 99 = .ok (.invokevirtual 137, 3) := dk_182 0 137 (dk_at dksX7_law_4 8 rfl rfl)
theorem dX7_law_102 : decode cX7_law 102 = .ok (.aload_n 0, 1) := dk_42 (dk_at dksX7_law_4 11 rfl rfl)
theorem dX7_law_103 : decode cX7_law 103 = .ok (.invokevirtual 202, 3) := dk_182 0 202 (dk_at dksX7_law_4 12 rfl rfl)
theorem dX7_law_106 : decode cX7_law 106 = .ok (.astore 4, 2) := dk_58 4 (dk_at dksX7_law_4 15 rfl rfl)
theorem dX7_law_108 : decode cX7_law 108 = .ok (.aload_n 0, 1) := dk_42 (dk_at dksX7_law_4 17 rfl rfl)
theorem dX7_law_109 : decode cX7_law 109 = .ok (.bipush 59, 2) := dk_16 59 (dk_at dksX7_law_4 18 rfl rfl)
theorem dX7_law_111 : decode cX7_law 111 = .ok (.invokevirtual 205, 3) := dk_182 0 205 (dk_at dksX7_law_4 20 rfl rfl)
theorem dX7_law_114 : decode cX7_law 114 = .ok (.aload_n 1, 1) := dk_43 (dk_at dksX7_law_4 23 rfl rfl)
theorem dX7_law_115 : decode cX7_law 115 = .ok (.new 217, 3) := dk_187 0 217 (dk_at dksX7_law_5 0 rfl rfl)
theorem dX7_law_118 : decode cX7_law 118 = .ok (.dup, 1) := dk_89 (dk_at dksX7_law_5 3 rfl rfl)
theorem dX7_law_119 : decode cX7_law 119 = .ok (.iload_n 2, 1) := dk_28 (dk_at dksX7_law_5 4 rfl rfl)
theorem dX7_law_120 : decode cX7_law 120 = .ok (.aload_n 3, 1) := dk_45 (dk_at dksX7_law_5 5 rfl rfl)
theorem dX7_law_121 : decode cX7_law 121 = .ok (.aload 4, 2) := dk_25 4 (dk_at dksX7_law_5 6 rfl rfl)
theorem dX7_law_123 : decode cX7_law 123 = .ok (.invokespecial 219, 3) := dk_183 0 219 (dk_at dksX7_law_5 8 rfl rfl)
theorem dX7_law_126 : decode cX7_law 126 = .ok (.invokevirtual 222, 3) := dk_182 0 222 (dk_at dksX7_law_5 11 rfl rfl)
theorem dX7_law_129 : decode cX7_law 129 = .ok (.pop, 1) := dk_87 (dk_at dksX7_law_5 14 rfl rfl)
theorem dX7_law_130 : decode cX7_law 130 = .ok (.goto (-118), 3) := dk_167 255 138 (dk_at dksX7_law_5 15 rfl rfl)
theorem dX7_law_133 : decode cX7_law 133 = .ok (.aload_n 1, 1) := dk_43 (dk_at dksX7_law_5 18 rfl rfl)
theorem dX7_law_134 : decode cX7_law 134 = .ok (.areturn, 1) := dk_176 (dk_at dksX7_law_5 19 rfl rfl)
abbrev cX7_next : ByteArray := prog_13_method_13_code
def yX7_next : MethodName := ⟨RX7, "next", "()V"⟩
def dkwX7_next_9 : List UInt8 := [180, 0, 26, 4, 96, 181, 0, 26, 177]
abbrev dktX7_next_9 : List UInt8 := dkwX7_next_9 ++ []
def dkwX7_next_8 : List UInt8 := [182, 0, 36, 182, 0, 162, 153, 0, 10, 42, 182, 0, 36, 167, 0, 4, 4, 181, 0, 126, 42, 89]
abbrev dktX7_next_8 : List UInt8 := dkwX7_next_8 ++ dktX7_next_9
def dkwX7_next_7 : List UInt8 := [180, 0, 44, 100, 8, 162, 0, 7, 5, 167, 0, 4, 4, 181, 0, 126, 167, 0, 36, 42, 42, 42]
abbrev dktX7_next_7 : List UInt8 := dkwX7_next_7 ++ dktX7_next_8
def dkwX7_next_6 : List UInt8 := [181, 0, 134, 42, 89, 180, 0, 26, 4, 96, 181, 0, 26, 167, 255, 207, 42, 42, 180, 0, 26, 42]
abbrev dktX7_next_6 : List UInt8 := dkwX7_next_6 ++ dktX7_next_7
def dkwX7_next_5 : List UInt8 := [180, 0, 44, 7, 96, 162, 0, 22, 42, 16, 10, 42, 180, 0, 134, 104, 42, 182, 0, 36, 96, 16, 48, 100]
abbrev dktX7_next_5 : List UInt8 := dkwX7_next_5 ++ dktX7_next_6
def dkwX7_next_4 : List UInt8 := [182, 0, 159, 153, 0, 85, 42, 3, 181, 0, 134, 42, 182, 0, 159, 153, 0, 48, 42, 180, 0, 26, 42]
abbrev dktX7_next_4 : List UInt8 := dkwX7_next_4 ++ dktX7_next_5
def dkwX7_next_3 : List UInt8 := [180, 0, 26, 4, 96, 181, 0, 26, 167, 255, 239, 42, 42, 182, 0, 156, 181, 0, 126, 167, 0, 125, 42]
abbrev dktX7_next_3 : List UInt8 := dkwX7_next_3 ++ dktX7_next_4
def dkwX7_next_2 : List UInt8 := [3, 181, 0, 126, 167, 0, 163, 42, 182, 0, 152, 153, 0, 34, 42, 182, 0, 152, 153, 0, 16, 42, 89]
abbrev dktX7_next_2 : List UInt8 := dkwX7_next_2 ++ dktX7_next_3
def dkwX7_next_1 : List UInt8 := [96, 181, 0, 26, 167, 255, 228, 42, 42, 180, 0, 26, 181, 0, 44, 42, 182, 0, 36, 2, 160, 0, 11, 42]
abbrev dktX7_next_1 : List UInt8 := dkwX7_next_1 ++ dktX7_next_2
def dkwX7_next_0 : List UInt8 := [42, 182, 0, 36, 16, 32, 159, 0, 12, 42, 182, 0, 36, 16, 10, 160, 0, 16, 42, 89, 180, 0, 26, 4]
abbrev dktX7_next_0 : List UInt8 := dkwX7_next_0 ++ dktX7_next_1
theorem dksX7_next_0 : cX7_next.data.toList.drop 0 = dktX7_next_0 := by decide +kernel
theorem dksX7_next_1 : cX7_next.data.toList.drop 24 = dktX7_next_1 := dk_seg dksX7_next_0 24 rfl rfl
theorem dksX7_next_2 : cX7_next.data.toList.drop 48 = dktX7_next_2 := dk_seg dksX7_next_1 24 rfl rfl
theorem dksX7_next_3 : cX7_next.data.toList.drop 71 = dktX7_next_3 := dk_seg dksX7_next_2 23 rfl rfl
theorem dksX7_next_4 : cX7_next.data.toList.drop 94 = dktX7_next_4 := dk_seg dksX7_next_3 23 rfl rfl
theorem dksX7_next_5 : cX7_next.data.toList.drop 117 = dktX7_next_5 := dk_seg dksX7_next_4 23 rfl rfl
theorem dksX7_next_6 : cX7_next.data.toList.drop 141 = dktX7_next_6 := dk_seg dksX7_next_5 24 rfl rfl
theorem dksX7_next_7 : cX7_next.data.toList.drop 163 = dktX7_next_7 := dk_seg dksX7_next_6 22 rfl rfl
theorem dksX7_next_8 : cX7_next.data.toList.drop 185 = dktX7_next_8 := dk_seg dksX7_next_7 22 rfl rfl
theorem dksX7_next_9 : cX7_next.data.toList.drop 207 = dktX7_next_9 := dk_seg dksX7_next_8 22 rfl rfl
theorem dX7_next_0 : decode cX7_next 0 = .ok (.aload_n 0, 1) := dk_42 (dk_at dksX7_next_0 0 rfl rfl)
theorem dX7_next_1 : decode cX7_next 1 = .ok (.invokevirtual 36, 3) := dk_182 0 36 (dk_at dksX7_next_0 1 rfl rfl)
theorem dX7_next_4 : decode cX7_next 4 = .ok (.bipush 32, 2) := dk_16 32 (dk_at dksX7_next_0 4 rfl rfl)
theorem dX7_next_6 : decode cX7_next 6 = .ok (.if_icmp .eq 12, 3) := dk_159 0 12 (dk_at dksX7_next_0 6 rfl rfl)
theorem dX7_next_9 : decode cX7_next 9 = .ok (.aload_n 0, 1) := dk_42 (dk_at dksX7_next_0 9 rfl rfl)
theorem dX7_next_10 : decode cX7_next 10 = .ok (.invokevirtual 36, 3) := dk_182 0 36 (dk_at dksX7_next_0 10 rfl rfl)
theorem dX7_next_13 : decode cX7_next 13 = .ok (.bipush 10, 2) := dk_16 10 (dk_at dksX7_next_0 13 rfl rfl)
theorem dX7_next_15 : decode cX7_next 15 = .ok (.if_icmp .ne 16, 3) := dk_160 0 16 (dk_at dksX7_next_0 15 rfl rfl)
theorem dX7_next_18 : decode cX7_next 18 = .ok (.aload_n 0, 1) := dk_42 (dk_at dksX7_next_0 18 rfl rfl)
theorem dX7_next_19 : decode cX7_next 19 = .ok (.dup, 1) := dk_89 (dk_at dksX7_next_0 19 rfl rfl)
theorem dX7_next_20 : decode cX7_next 20 = .ok (.getfield 26, 3) := dk_180 0 26 (dk_at dksX7_next_0 20 rfl rfl)
theorem dX7_next_23 : decode cX7_next 23 = .ok (.iconst 1, 1) := dk_4 (dk_at dksX7_next_0 23 rfl rfl)
theorem dX7_next_24 : decode cX7_next 24 = .ok (.iadd, 1) := dk_96 (dk_at dksX7_next_1 0 rfl rfl)
theorem dX7_next_25 : decode cX7_next 25 = .ok (.putfield 26, 3) := dk_181 0 26 (dk_at dksX7_next_1 1 rfl rfl)
theorem dX7_next_28 : decode cX7_next 28 = .ok (.goto (-28), 3) := dk_167 255 228 (dk_at dksX7_next_1 4 rfl rfl)
theorem dX7_next_31 : decode cX7_next 31 = .ok (.aload_n 0, 1) := dk_42 (dk_at dksX7_next_1 7 rfl rfl)
theorem dX7_next_32 : decode cX7_next 32 = .ok (.aload_n 0, 1) := dk_42 (dk_at dksX7_next_1 8 rfl rfl)
theorem dX7_next_33 : decode cX7_next 33 = .ok (.getfield 26, 3) := dk_180 0 26 (dk_at dksX7_next_1 9 rfl rfl)
theorem dX7_next_36 : decode cX7_next 36 = .ok (.putfield 44, 3) := dk_181 0 44 (dk_at dksX7_next_1 12 rfl rfl)
theorem dX7_next_39 : decode cX7_next 39 = .ok (.aload_n 0, 1) := dk_42 (dk_at dksX7_next_1 15 rfl rfl)
theorem dX7_next_40 : decode cX7_next 40 = .ok (.invokevirtual 36, 3) := dk_182 0 36 (dk_at dksX7_next_1 16 rfl rfl)
theorem dX7_next_43 : decode cX7_next 43 = .ok (.iconst (-1), 1) := dk_2 (dk_at dksX7_next_1 19 rfl rfl)
theorem dX7_next_44 : decode cX7_next 44 = .ok (.if_icmp .ne 11, 3) := dk_160 0 11 (dk_at dksX7_next_1 20 rfl rfl)
theorem dX7_next_47 : decode cX7_next 47 = .ok (.aload_n 0, 1) := dk_42 (dk_at dksX7_next_1 23 rfl rfl)
theorem dX7_next_48 : decode cX7_next 48 = .ok (.iconst 0, 1) := dk_3 (dk_at dksX7_next_2 0 rfl rfl)
theorem dX7_next_49 : decode cX7_next 49 = .ok (.putfield 126, 3) := dk_181 0 126 (dk_at dksX7_next_2 1 rfl rfl)
theorem dX7_next_52 : decode cX7_next 52 = .ok (.goto 163, 3) := dk_167 0 163 (dk_at dksX7_next_2 4 rfl rfl)
theorem dX7_next_55 : decode cX7_next 55 = .ok (.aload_n 0, 1) := dk_42 (dk_at dksX7_next_2 7 rfl rfl)
theorem dX7_next_56 : decode cX7_next 56 = .ok (.invokevirtual 152, 3) := dk_182 0 152 (dk_at dksX7_next_2 8 rfl rfl)
theorem dX7_next_59 : decode cX7_next 59 = .ok (.ifCond .eq 34, 3) := dk_153 0 34 (dk_at dksX7_next_2 11 rfl rfl)
theorem dX7_next_62 : decode cX7_next 62 = .ok (.aload_n 0, 1) := dk_42 (dk_at dksX7_next_2 14 rfl rfl)
theorem dX7_next_63 : decode cX7_next 63 = .ok (.invokevirtual 152, 3) := dk_182 0 152 (dk_at dksX7_next_2 15 rfl rfl)
theorem dX7_next_66 : decode cX7_next 66 = .ok (.ifCond .eq 16, 3) := dk_153 0 16 (dk_at dksX7_next_2 18 rfl rfl)
theorem dX7_next_69 : decode cX7_next 69 = .ok (.aload_n 0, 1) := dk_42 (dk_at dksX7_next_2 21 rfl rfl)
theorem dX7_next_70 : decode cX7_next 70 = .ok (.dup, 1) := dk_89 (dk_at dksX7_next_2 22 rfl rfl)
theorem dX7_next_71 : decode cX7_next 71 = .ok (.getfield 26, 3) := dk_180 0 26 (dk_at dksX7_next_3 0 rfl rfl)
theorem dX7_next_74 : decode cX7_next 74 = .ok (.iconst 1, 1) := dk_4 (dk_at dksX7_next_3 3 rfl rfl)
theorem dX7_next_75 : decode cX7_next 75 = .ok (.iadd, 1) := dk_96 (dk_at dksX7_next_3 4 rfl rfl)
theorem dX7_next_76 : decode cX7_next 76 = .ok (.putfield 26, 3) := dk_181 0 26 (dk_at dksX7_next_3 5 rfl rfl)
theorem dX7_next_79 : decode cX7_next 79 = .ok (.goto (-17), 3) := dk_167 255 239 (dk_at dksX7_next_3 8 rfl rfl)
theorem dX7_next_82 : decode cX7_next 82 = .ok (.aload_n 0, 1) := dk_42 (dk_at dksX7_next_3 11 rfl rfl)
theorem dX7_next_83 : decode cX7_next 83 = .ok (.aload_n 0, 1) := dk_42 (dk_at dksX7_next_3 12 rfl rfl)
theorem dX7_next_84 : decode cX7_next 84 = .ok (.invokevirtual 156, 3) := dk_182 0 156 (dk_at dksX7_next_3 13 rfl rfl)
theorem dX7_next_87 : decode cX7_next 87 = .ok (.putfield 126, 3) := dk_181 0 126 (dk_at dksX7_next_3 16 rfl rfl)
theorem dX7_next_90 : decode cX7_next 90 = .ok (.goto 125, 3) := dk_167 0 125 (dk_at dksX7_next_3 19 rfl rfl)
theorem dX7_next_93 : decode cX7_next 93 = .ok (.aload_n 0, 1) := dk_42 (dk_at dksX7_next_3 22 rfl rfl)
theorem dX7_next_94 : decode cX7_next 94 = .ok (.invokevirtual 159, 3) := dk_182 0 159 (dk_at dksX7_next_4 0 rfl rfl)
theorem dX7_next_97 : decode cX7_next 97 = .ok (.ifCond .eq 85, 3) := dk_153 0 85 (dk_at dksX7_next_4 3 rfl rfl)
theorem dX7_next_100 : decode cX7_next 100 = .ok (.aload_n 0, 1) := dk_42 (dk_at dksX7_next_4 6 rfl rfl)
theorem dX7_next_101 : decode cX7_next 101 = .ok (.iconst 0, 1) := dk_3 (dk_at dksX7_next_4 7 rfl rfl)
theorem dX7_next_102 : decode cX7_next 102 = .ok (.putfield 134, 3) := dk_181 0 134 (dk_at dksX7_next_4 8 rfl rfl)
theorem dX7_next_105 : decode cX7_next 105 = .ok (.aload_n 0, 1) := dk_42 (dk_at dksX7_next_4 11 rfl rfl)
theorem dX7_next_106 : decode cX7_next 106 = .ok (.invokevirtual 159, 3) := dk_182 0 159 (dk_at dksX7_next_4 12 rfl rfl)
theorem dX7_next_109 : decode cX7_next 109 = .ok (.ifCond .eq 48, 3) := dk_153 0 48 (dk_at dksX7_next_4 15 rfl rfl)
theorem dX7_next_112 : decode cX7_next 112 = .ok (.aload_n 0, 1) := dk_42 (dk_at dksX7_next_4 18 rfl rfl)
theorem dX7_next_113 : decode cX7_next 113 = .ok (.getfield 26, 3) := dk_180 0 26 (dk_at dksX7_next_4 19 rfl rfl)
theorem dX7_next_116 : decode cX7_next 116 = .ok (.aload_n 0, 1) := dk_42 (dk_at dksX7_next_4 22 rfl rfl)
theorem dX7_next_117 : decode cX7_next 117 = .ok (.getfield 44, 3) := dk_180 0 44 (dk_at dksX7_next_5 0 rfl rfl)
theorem dX7_next_120 : decode cX7_next 120 = .ok (.iconst 4, 1) := dk_7 (dk_at dksX7_next_5 3 rfl rfl)
theorem dX7_next_121 : decode cX7_next 121 = .ok (.iadd, 1) := dk_96 (dk_at dksX7_next_5 4 rfl rfl)
theorem dX7_next_122 : decode cX7_next 122 = .ok (.if_icmp .ge 22, 3) := dk_162 0 22 (dk_at dksX7_next_5 5 rfl rfl)
theorem dX7_next_125 : decode cX7_next 125 = .ok (.aload_n 0, 1) := dk_42 (dk_at dksX7_next_5 8 rfl rfl)
theorem dX7_next_126 : decode cX7_next 126 = .ok (.bipush 10, 2) := dk_16 10 (dk_at dksX7_next_5 9 rfl rfl)
theorem dX7_next_128 : decode cX7_next 128 = .ok (.aload_n 0, 1) := dk_42 (dk_at dksX7_next_5 11 rfl rfl)
theorem dX7_next_129 : decode cX7_next 129 = .ok (.getfield 134, 3) := dk_180 0 134 (dk_at dksX7_next_5 12 rfl rfl)
theorem dX7_next_132 : decode cX7_next 132 = .ok (.imul, 1) := dk_104 (dk_at dksX7_next_5 15 rfl rfl)
theorem dX7_next_133 : decode cX7_next 133 = .ok (.aload_n 0, 1) := dk_42 (dk_at dksX7_next_5 16 rfl rfl)
theorem dX7_next_134 : decode cX7_next 134 = .ok (.invokevirtual 36, 3) := dk_182 0 36 (dk_at dksX7_next_5 17 rfl rfl)
theorem dX7_next_137 : decode cX7_next 137 = .ok (.iadd, 1) := dk_96 (dk_at dksX7_next_5 20 rfl rfl)
theorem dX7_next_138 : decode cX7_next 138 = .ok (.bipush 48, 2) := dk_16 48 (dk_at dksX7_next_5 21 rfl rfl)
theorem dX7_next_140 : decode cX7_next 140 = .ok (.isub, 1) := dk_100 (dk_at dksX7_next_5 23 rfl rfl)
theorem dX7_next_141 : decode cX7_next 141 = .ok (.putfield 134, 3) := dk_181 0 134 (dk_at dksX7_next_6 0 rfl rfl)
theorem dX7_next_144 : decode cX7_next 144 = .ok (.aload_n 0, 1) := dk_42 (dk_at dksX7_next_6 3 rfl rfl)
theorem dX7_next_145 : decode cX7_next 145 = .ok (.dup, 1) := dk_89 (dk_at dksX7_next_6 4 rfl rfl)
theorem dX7_next_146 : decode cX7_next 146 = .ok (.getfield 26, 3) := dk_180 0 26 (dk_at dksX7_next_6 5 rfl rfl)
theorem dX7_next_149 : decode cX7_next 149 = .ok (.iconst 1, 1) := dk_4 (dk_at dksX7_next_6 8 rfl rfl)
theorem dX7_next_150 : decode cX7_next 150 = .ok (.iadd, 1) := dk_96 (dk_at dksX7_next_6 9 rfl rfl)
theorem dX7_next_151 : decode cX7_next 151 = .ok (.putfield 26, 3) := dk_181 0 26 (dk_at dksX7_next_6 10 rfl rfl)
theorem dX7_next_154 : decode cX7_next 154 = .ok (.goto (-49), 3) := dk_167 255 207 (dk_at dksX7_next_6 13 rfl rfl)
theorem dX7_next_157 : decode cX7_next 157 = .ok (.aload_n 0, 1) := dk_42 (dk_at dksX7_next_6 16 rfl rfl)
theorem dX7_next_158 : decode cX7_next 158 = .ok (.aload_n 0, 1) := dk_42 (dk_at dksX7_next_6 17 rfl rfl)
theorem dX7_next_159 : decode cX7_next 159 = .ok (.getfield 26, 3) := dk_180 0 26 (dk_at dksX7_next_6 18 rfl rfl)
theorem dX7_next_162 : decode cX7_next 162 = .ok (.aload_n 0, 1) := dk_42 (dk_at dksX7_next_6 21 rfl rfl)
theorem dX7_next_163 : decode cX7_next 163 = .ok (.getfield 44, 3) := dk_180 0 44 (dk_at dksX7_next_7 0 rfl rfl)
theorem dX7_next_166 : decode cX7_next 166 = .ok (.isub, 1) := dk_100 (dk_at dksX7_next_7 3 rfl rfl)
theorem dX7_next_167 : decode cX7_next 167 = .ok (.iconst 5, 1) := dk_8 (dk_at dksX7_next_7 4 rfl rfl)
theorem dX7_next_168 : decode cX7_next 168 = .ok (.if_icmp .ge 7, 3) := dk_162 0 7 (dk_at dksX7_next_7 5 rfl rfl)
theorem dX7_next_171 : decode cX7_next 171 = .ok (.iconst 2, 1) := dk_5 (dk_at dksX7_next_7 8 rfl rfl)
theorem dX7_next_172 : decode cX7_next 172 = .ok (.goto 4, 3) := dk_167 0 4 (dk_at dksX7_next_7 9 rfl rfl)
theorem dX7_next_175 : decode cX7_next 175 = .ok (.iconst 1, 1) := dk_4 (dk_at dksX7_next_7 12 rfl rfl)
theorem dX7_next_176 : decode cX7_next 176 = .ok (.putfield 126, 3) := dk_181 0 126 (dk_at dksX7_next_7 13 rfl rfl)
theorem dX7_next_179 : decode cX7_next 179 = .ok (.goto 36, 3) := dk_167 0 36 (dk_at dksX7_next_7 16 rfl rfl)
theorem dX7_next_182 : decode cX7_next 182 = .ok (.aload_n 0, 1) := dk_42 (dk_at dksX7_next_7 19 rfl rfl)
theorem dX7_next_183 : decode cX7_next 183 = .ok (.aload_n 0, 1) := dk_42 (dk_at dksX7_next_7 20 rfl rfl)
theorem dX7_next_184 : decode cX7_next 184 = .ok (.aload_n 0, 1) := dk_42 (dk_at dksX7_next_7 21 rfl rfl)
theorem dX7_next_185 : decode cX7_next 185 = .ok (.invokevirtual 36, 3) := dk_182 0 36 (dk_at dksX7_next_8 0 rfl rfl)
theorem dX7_next_188 : decode cX7_next 188 = .ok (.invokevirtual 162, 3) := dk_182 0 162 (dk_at dksX7_next_8 3 rfl rfl)
theorem dX7_next_191 : decode cX7_next 191 = .ok (.ifCond .eq 10, 3) := dk_153 0 10 (dk_at dksX7_next_8 6 rfl rfl)
theorem dX7_next_194 : decode cX7_next 194 = .ok (.aload_n 0, 1) := dk_42 (dk_at dksX7_next_8 9 rfl rfl)
theorem dX7_next_195 : decode cX7_next 195 = .ok (.invokevirtual 36, 3) := dk_182 0 36 (dk_at dksX7_next_8 10 rfl rfl)
theorem dX7_next_198 : decode cX7_next 198 = .ok (.goto 4, 3) := dk_167 0 4 (dk_at dksX7_next_8 13 rfl rfl)
theorem dX7_next_201 : decode cX7_next 201 = .ok (.iconst 1, 1) := dk_4 (dk_at dksX7_next_8 16 rfl rfl)
theorem dX7_next_202 : decode cX7_next 202 = .ok (.putfield 126, 3) := dk_181 0 126 (dk_at dksX7_next_8 17 rfl rfl)
theorem dX7_next_205 : decode cX7_next 205 = .ok (.aload_n 0, 1) := dk_42 (dk_at dksX7_next_8 20 rfl rfl)
theorem dX7_next_206 : decode cX7_next 206 = .ok (.dup, 1) := dk_89 (dk_at dksX7_next_8 21 rfl rfl)
theorem dX7_next_207 : decode cX7_next 207 = .ok (.getfield 26, 3) := dk_180 0 26 (dk_at dksX7_next_9 0 rfl rfl)
theorem dX7_next_210 : decode cX7_next 210 = .ok (.iconst 1, 1) := dk_4 (dk_at dksX7_next_9 3 rfl rfl)
theorem dX7_next_211 : decode cX7_next 211 = .ok (.iadd, 1) := dk_96 (dk_at dksX7_next_9 4 rfl rfl)
theorem dX7_next_212 : decode cX7_next 212 = .ok (.putfield 26, 3) := dk_181 0 26 (dk_at dksX7_next_9 5 rfl rfl)
theorem dX7_next_215 : decode cX7_next 215 = .ok (.return_, 1) := dk_177 (dk_at dksX7_next_9 8 rfl rfl)
abbrev cX7_see : ByteArray := prog_13_method_2_code
def yX7_see : MethodName := ⟨RX7, "see", "()I"⟩
def dkwX7_see_1 : List UInt8 := [180, 0, 26, 51, 17, 0, 255, 126, 167, 0, 4, 2, 172]
abbrev dktX7_see_1 : List UInt8 := dkwX7_see_1 ++ []
def dkwX7_see_0 : List UInt8 := [42, 180, 0, 26, 42, 180, 0, 3, 180, 0, 29, 162, 0, 22, 42, 180, 0, 3, 180, 0, 32, 42]
abbrev dktX7_see_0 : List UInt8 := dkwX7_see_0 ++ dktX7_see_1
theorem dksX7_see_0 : cX7_see.data.toList.drop 0 = dktX7_see_0 := by decide +kernel
theorem dksX7_see_1 : cX7_see.data.toList.drop 22 = dktX7_see_1 := dk_seg dksX7_see_0 22 rfl rfl
theorem dX7_see_0 : decode cX7_see 0 = .ok (.aload_n 0, 1) := dk_42 (dk_at dksX7_see_0 0 rfl rfl)
theorem dX7_see_1 : decode cX7_see 1 = .ok (.getfield 26, 3) := dk_180 0 26 (dk_at dksX7_see_0 1 rfl rfl)
theorem dX7_see_4 : decode cX7_see 4 = .ok (.aload_n 0, 1) := dk_42 (dk_at dksX7_see_0 4 rfl rfl)
theorem dX7_see_5 : decode cX7_see 5 = .ok (.getfield 3, 3) := dk_180 0 3 (dk_at dksX7_see_0 5 rfl rfl)
theorem dX7_see_8 : decode cX7_see 8 = .ok (.getfield 29, 3) := dk_180 0 29 (dk_at dksX7_see_0 8 rfl rfl)
theorem dX7_see_11 : decode cX7_see 11 = .ok (.if_icmp .ge 22, 3) := dk_162 0 22 (dk_at dksX7_see_0 11 rfl rfl)
theorem dX7_see_14 : decode cX7_see 14 = .ok (.aload_n 0, 1) := dk_42 (dk_at dksX7_see_0 14 rfl rfl)
theorem dX7_see_15 : decode cX7_see 15 = .ok (.getfield 3, 3) := dk_180 0 3 (dk_at dksX7_see_0 15 rfl rfl)
theorem dX7_see_18 : decode cX7_see 18 = .ok (.getfield 32, 3) := dk_180 0 32 (dk_at dksX7_see_0 18 rfl rfl)
theorem dX7_see_21 : decode cX7_see 21 = .ok (.aload_n 0, 1) := dk_42 (dk_at dksX7_see_0 21 rfl rfl)
theorem dX7_see_22 : decode cX7_see 22 = .ok (.getfield 26, 3) := dk_180 0 26 (dk_at dksX7_see_1 0 rfl rfl)
theorem dX7_see_25 : decode cX7_see 25 = .ok (.baload, 1) := dk_51 (dk_at dksX7_see_1 3 rfl rfl)
theorem dX7_see_26 : decode cX7_see 26 = .ok (.sipush 255, 3) := dk_17 0 255 (dk_at dksX7_see_1 4 rfl rfl)
theorem dX7_see_29 : decode cX7_see 29 = .ok (.iand, 1) := dk_126 (dk_at dksX7_see_1 7 rfl rfl)
theorem dX7_see_30 : decode cX7_see 30 = .ok (.goto 4, 3) := dk_167 0 4 (dk_at dksX7_see_1 8 rfl rfl)
theorem dX7_see_33 : decode cX7_see 33 = .ok (.iconst (-1), 1) := dk_2 (dk_at dksX7_see_1 11 rfl rfl)
theorem dX7_see_34 : decode cX7_see 34 = .ok (.ireturn, 1) := dk_172 (dk_at dksX7_see_1 12 rfl rfl)
abbrev cX7_isLetter : ByteArray := prog_13_method_3_code
def yX7_isLetter : MethodName := ⟨RX7, "isLetter", "()Z"⟩
def dkwX7_isLetter_1 : List UInt8 := [184, 0, 40, 153, 0, 7, 4, 167, 0, 4, 3, 172]
abbrev dktX7_isLetter_1 : List UInt8 := dkwX7_isLetter_1 ++ []
def dkwX7_isLetter_0 : List UInt8 := [42, 182, 0, 36, 16, 97, 16, 122, 184, 0, 40, 154, 0, 17, 42, 182, 0, 36, 16, 65, 16, 90]
abbrev dktX7_isLetter_0 : List UInt8 := dkwX7_isLetter_0 ++ dktX7_isLetter_1
theorem dksX7_isLetter_0 : cX7_isLetter.data.toList.drop 0 = dktX7_isLetter_0 := by decide +kernel
theorem dksX7_isLetter_1 : cX7_isLetter.data.toList.drop 22 = dktX7_isLetter_1 := dk_seg dksX7_isLetter_0 22 rfl rfl
theorem dX7_isLetter_0 : decode cX7_isLetter 0 = .ok (.aload_n 0, 1) := dk_42 (dk_at dksX7_isLetter_0 0 rfl rfl)
theorem dX7_isLetter_1 : decode cX7_isLetter 1 = .ok (.invokevirtual 36, 3) := dk_182 0 36 (dk_at dksX7_isLetter_0 1 rfl rfl)
theorem dX7_isLetter_4 : decode cX7_isLetter 4 = .ok (.bipush 97, 2) := dk_16 97 (dk_at dksX7_isLetter_0 4 rfl rfl)
theorem dX7_isLetter_6 : decode cX7_isLetter 6 = .ok (.bipush 122, 2) := dk_16 122 (dk_at dksX7_isLetter_0 6 rfl rfl)
theorem dX7_isLetter_8 : decode cX7_isLetter 8 = .ok (.invokestatic 40, 3) := dk_184 0 40 (dk_at dksX7_isLetter_0 8 rfl rfl)
theorem dX7_isLetter_11 : decode cX7_isLetter 11 = .ok (.ifCond .ne 17, 3) := dk_154 0 17 (dk_at dksX7_isLetter_0 11 rfl rfl)
theorem dX7_isLetter_14 : decode cX7_isLetter 14 = .ok (.aload_n 0, 1) := dk_42 (dk_at dksX7_isLetter_0 14 rfl rfl)
theorem dX7_isLetter_15 : decode cX7_isLetter 15 = .ok (.invokevirtual 36, 3) := dk_182 0 36 (dk_at dksX7_isLetter_0 15 rfl rfl)
theorem dX7_isLetter_18 : decode cX7_isLetter 18 = .ok (.bipush 65, 2) := dk_16 65 (dk_at dksX7_isLetter_0 18 rfl rfl)
theorem dX7_isLetter_20 : decode cX7_isLetter 20 = .ok (.bipush 90, 2) := dk_16 90 (dk_at dksX7_isLetter_0 20 rfl rfl)
theorem dX7_isLetter_22 : decode cX7_isLetter 22 = .ok (.invokestatic 40, 3) := dk_184 0 40 (dk_at dksX7_isLetter_1 0 rfl rfl)
theorem dX7_isLetter_25 : decode cX7_isLetter 25 = .ok (.ifCond .eq 7, 3) := dk_153 0 7 (dk_at dksX7_isLetter_1 3 rfl rfl)
theorem dX7_isLetter_28 : decode cX7_isLetter 28 = .ok (.iconst 1, 1) := dk_4 (dk_at dksX7_isLetter_1 6 rfl rfl)
theorem dX7_isLetter_29 : decode cX7_isLetter 29 = .ok (.goto 4, 3) := dk_167 0 4 (dk_at dksX7_isLetter_1 7 rfl rfl)
theorem dX7_isLetter_32 : decode cX7_isLetter 32 = .ok (.iconst 0, 1) := dk_3 (dk_at dksX7_isLetter_1 10 rfl rfl)
theorem dX7_isLetter_33 : decode cX7_isLetter 33 = .ok (.ireturn, 1) := dk_172 (dk_at dksX7_isLetter_1 11 rfl rfl)
abbrev cX7_keyword : ByteArray := prog_13_method_9_code
def yX7_keyword : MethodName := ⟨RX7, "keyword", "()I"⟩
def dkwX7_keyword_3 : List UInt8 := [4, 172, 42, 18, 125, 182, 0, 58, 153, 0, 8, 16, 13, 167, 0, 4, 4, 172]
abbrev dktX7_keyword_3 : List UInt8 := dkwX7_keyword_3 ++ []
def dkwX7_keyword_2 : List UInt8 := [42, 182, 0, 117, 172, 42, 182, 0, 120, 172, 42, 18, 123, 182, 0, 58, 153, 0, 8, 16, 12, 167, 0, 4]
abbrev dktX7_keyword_2 : List UInt8 := dkwX7_keyword_2 ++ dktX7_keyword_3
def dkwX7_keyword_1 : List UInt8 := [170, 0, 0, 0, 0, 0, 0, 54, 0, 0, 0, 0, 0, 0, 0, 2, 0, 0, 0, 28, 0, 0, 0, 33, 0, 0, 0, 38]
abbrev dktX7_keyword_1 : List UInt8 := dkwX7_keyword_1 ++ dktX7_keyword_2
def dkwX7_keyword_0 : List UInt8 := [42, 180, 0, 22]
abbrev dktX7_keyword_0 : List UInt8 := dkwX7_keyword_0 ++ dktX7_keyword_1
theorem dksX7_keyword_0 : cX7_keyword.data.toList.drop 0 = dktX7_keyword_0 := by decide +kernel
theorem dksX7_keyword_1 : cX7_keyword.data.toList.drop 4 = dktX7_keyword_1 := dk_seg dksX7_keyword_0 4 rfl rfl
theorem dksX7_keyword_2 : cX7_keyword.data.toList.drop 32 = dktX7_keyword_2 := dk_seg dksX7_keyword_1 28 rfl rfl
theorem dksX7_keyword_3 : cX7_keyword.data.toList.drop 56 = dktX7_keyword_3 := dk_seg dksX7_keyword_2 24 rfl rfl
theorem dX7_keyword_0 : decode cX7_keyword 0 = .ok (.aload_n 0, 1) := dk_42 (dk_at dksX7_keyword_0 0 rfl rfl)
theorem dX7_keyword_1 : decode cX7_keyword 1 = .ok (.getfield 22, 3) := dk_180 0 22 (dk_at dksX7_keyword_0 1 rfl rfl)
theorem dX7_keyword_4 : decode cX7_keyword 4 = .ok (.tableswitch 54 0 2 #[28, 33, 38], 28) := by decide +kernel
theorem dX7_keyword_32 : decode cX7_keyword 32 = .ok (.aload_n 0, 1) := dk_42 (dk_at dksX7_keyword_2 0 rfl rfl)
theorem dX7_keyword_33 : decode cX7_keyword 33 = .ok (.invokevirtual 117, 3) := dk_182 0 117 (dk_at dksX7_keyword_2 1 rfl rfl)
theorem dX7_keyword_36 : decode cX7_keyword 36 = .ok (.ireturn, 1) := dk_172 (dk_at dksX7_keyword_2 4 rfl rfl)
theorem dX7_keyword_37 : decode cX7_keyword 37 = .ok (.aload_n 0, 1) := dk_42 (dk_at dksX7_keyword_2 5 rfl rfl)
theorem dX7_keyword_38 : decode cX7_keyword 38 = .ok (.invokevirtual 120, 3) := dk_182 0 120 (dk_at dksX7_keyword_2 6 rfl rfl)
theorem dX7_keyword_41 : decode cX7_keyword 41 = .ok (.ireturn, 1) := dk_172 (dk_at dksX7_keyword_2 9 rfl rfl)
theorem dX7_keyword_42 : decode cX7_keyword 42 = .ok (.aload_n 0, 1) := dk_42 (dk_at dksX7_keyword_2 10 rfl rfl)
theorem dX7_keyword_43 : decode cX7_keyword 43 = .ok (.ldc 123, 2) := dk_18 123 (dk_at dksX7_keyword_2 11 rfl rfl)
theorem dX7_keyword_45 : decode cX7_keyword 45 = .ok (.invokevirtual 58, 3) := dk_182 0 58 (dk_at dksX7_keyword_2 13 rfl rfl)
theorem dX7_keyword_48 : decode cX7_keyword 48 = .ok (.ifCond .eq 8, 3) := dk_153 0 8 (dk_at dksX7_keyword_2 16 rfl rfl)
theorem dX7_keyword_51 : decode cX7_keyword 51 = .ok (.bipush 12, 2) := dk_16 12 (dk_at dksX7_keyword_2 19 rfl rfl)
theorem dX7_keyword_53 : decode cX7_keyword 53 = .ok (.goto 4, 3) := dk_167 0 4 (dk_at dksX7_keyword_2 21 rfl rfl)
theorem dX7_keyword_56 : decode cX7_keyword 56 = .ok (.iconst 1, 1) := dk_4 (dk_at dksX7_keyword_3 0 rfl rfl)
theorem dX7_keyword_57 : decode cX7_keyword 57 = .ok (.ireturn, 1) := dk_172 (dk_at dksX7_keyword_3 1 rfl rfl)
theorem dX7_keyword_58 : decode cX7_keyword 58 = .ok (.aload_n 0, 1) := dk_42 (dk_at dksX7_keyword_3 2 rfl rfl)
theorem dX7_keyword_59 : decode cX7_keyword 59 = .ok (.ldc 125, 2) := dk_18 125 (dk_at dksX7_keyword_3 3 rfl rfl)
theorem dX7_keyword_61 : decode cX7_keyword 61 = .ok (.invokevirtual 58, 3) := dk_182 0 58 (dk_at dksX7_keyword_3 5 rfl rfl)
theorem dX7_keyword_64 : decode cX7_keyword 64 = .ok (.ifCond .eq 8, 3) := dk_153 0 8 (dk_at dksX7_keyword_3 8 rfl rfl)
theorem dX7_keyword_67 : decode cX7_keyword 67 = .ok (.bipush 13, 2) := dk_16 13 (dk_at dksX7_keyword_3 11 rfl rfl)
theorem dX7_keyword_69 : decode cX7_keyword 69 = .ok (.goto 4, 3) := dk_167 0 4 (dk_at dksX7_keyword_3 13 rfl rfl)
theorem dX7_keyword_72 : decode cX7_keyword 72 = .ok (.iconst 1, 1) := dk_4 (dk_at dksX7_keyword_3 16 rfl rfl)
theorem dX7_keyword_73 : decode cX7_keyword 73 = .ok (.ireturn, 1) := dk_172 (dk_at dksX7_keyword_3 17 rfl rfl)
abbrev cX7_lawWord : ByteArray := prog_13_method_7_code
def yX7_lawWord : MethodName := ⟨RX7, "lawWord", "()I"⟩
def dkwX7_lawWord_3 : List UInt8 := [18, 94, 182, 0, 58, 153, 0, 8, 16, 9, 167, 0, 7, 42, 182, 0, 96, 172]
abbrev dktX7_lawWord_3 : List UInt8 := dkwX7_lawWord_3 ++ []
def dkwX7_lawWord_2 : List UInt8 := [18, 90, 182, 0, 58, 153, 0, 6, 16, 7, 172, 42, 18, 92, 182, 0, 58, 153, 0, 6, 16, 8, 172, 42]
abbrev dktX7_lawWord_2 : List UInt8 := dkwX7_lawWord_2 ++ dktX7_lawWord_3
def dkwX7_lawWord_1 : List UInt8 := [18, 86, 182, 0, 58, 153, 0, 5, 8, 172, 42, 18, 88, 182, 0, 58, 153, 0, 6, 16, 6, 172, 42]
abbrev dktX7_lawWord_1 : List UInt8 := dkwX7_lawWord_1 ++ dktX7_lawWord_2
def dkwX7_lawWord_0 : List UInt8 := [42, 18, 82, 182, 0, 58, 153, 0, 5, 6, 172, 42, 18, 84, 182, 0, 58, 153, 0, 5, 7, 172, 42]
abbrev dktX7_lawWord_0 : List UInt8 := dkwX7_lawWord_0 ++ dktX7_lawWord_1
theorem dksX7_lawWord_0 : cX7_lawWord.data.toList.drop 0 = dktX7_lawWord_0 := by decide +kernel
theorem dksX7_lawWord_1 : cX7_lawWord.data.toList.drop 23 = dktX7_lawWord_1 := dk_seg dksX7_lawWord_0 23 rfl rfl
theorem dksX7_lawWord_2 : cX7_lawWord.data.toList.drop 46 = dktX7_lawWord_2 := dk_seg dksX7_lawWord_1 23 rfl rfl
theorem dksX7_lawWord_3 : cX7_lawWord.data.toList.drop 70 = dktX7_lawWord_3 := dk_seg dksX7_lawWord_2 24 rfl rfl
theorem dX7_lawWord_0 : decode cX7_lawWord 0 = .ok (.aload_n 0, 1) := dk_42 (dk_at dksX7_lawWord_0 0 rfl rfl)
theorem dX7_lawWord_1 : decode cX7_lawWord 1 = .ok (.ldc 82, 2) := dk_18 82 (dk_at dksX7_lawWord_0 1 rfl rfl)
theorem dX7_lawWord_3 : decode cX7_lawWord 3 = .ok (.invokevirtual 58, 3) := dk_182 0 58 (dk_at dksX7_lawWord_0 3 rfl rfl)
theorem dX7_lawWord_6 : decode cX7_lawWord 6 = .ok (.ifCond .eq 5, 3) := dk_153 0 5 (dk_at dksX7_lawWord_0 6 rfl rfl)
theorem dX7_lawWord_9 : decode cX7_lawWord 9 = .ok (.iconst 3, 1) := dk_6 (dk_at dksX7_lawWord_0 9 rfl rfl)
theorem dX7_lawWord_10 : decode cX7_lawWord 10 = .ok (.ireturn, 1) := dk_172 (dk_at dksX7_lawWord_0 10 rfl rfl)
theorem dX7_lawWord_11 : decode cX7_lawWord 11 = .ok (.aload_n 0, 1) := dk_42 (dk_at dksX7_lawWord_0 11 rfl rfl)
theorem dX7_lawWord_12 : decode cX7_lawWord 12 = .ok (.ldc 84, 2) := dk_18 84 (dk_at dksX7_lawWord_0 12 rfl rfl)
theorem dX7_lawWord_14 : decode cX7_lawWord 14 = .ok (.invokevirtual 58, 3) := dk_182 0 58 (dk_at dksX7_lawWord_0 14 rfl rfl)
theorem dX7_lawWord_17 : decode cX7_lawWord 17 = .ok (.ifCond .eq 5, 3) := dk_153 0 5 (dk_at dksX7_lawWord_0 17 rfl rfl)
theorem dX7_lawWord_20 : decode cX7_lawWord 20 = .ok (.iconst 4, 1) := dk_7 (dk_at dksX7_lawWord_0 20 rfl rfl)
theorem dX7_lawWord_21 : decode cX7_lawWord 21 = .ok (.ireturn, 1) := dk_172 (dk_at dksX7_lawWord_0 21 rfl rfl)
theorem dX7_lawWord_22 : decode cX7_lawWord 22 = .ok (.aload_n 0, 1) := dk_42 (dk_at dksX7_lawWord_0 22 rfl rfl)
theorem dX7_lawWord_23 : decode cX7_lawWord 23 = .ok (.ldc 86, 2) := dk_18 86 (dk_at dksX7_lawWord_1 0 rfl rfl)
theorem dX7_lawWord_25 : decode cX7_lawWord 25 = .ok (.invokevirtual 58, 3) := dk_182 0 58 (dk_at dksX7_lawWord_1 2 rfl rfl)
theorem dX7_lawWord_28 : decode cX7_lawWord 28 = .ok (.ifCond .eq 5, 3) := dk_153 0 5 (dk_at dksX7_lawWord_1 5 rfl rfl)
theorem dX7_lawWord_31 : decode cX7_lawWord 31 = .ok (.iconst 5, 1) := dk_8 (dk_at dksX7_lawWord_1 8 rfl rfl)
theorem dX7_lawWord_32 : decode cX7_lawWord 32 = .ok (.ireturn, 1) := dk_172 (dk_at dksX7_lawWord_1 9 rfl rfl)
theorem dX7_lawWord_33 : decode cX7_lawWord 33 = .ok (.aload_n 0, 1) := dk_42 (dk_at dksX7_lawWord_1 10 rfl rfl)
theorem dX7_lawWord_34 : decode cX7_lawWord 34 = .ok (.ldc 88, 2) := dk_18 88 (dk_at dksX7_lawWord_1 11 rfl rfl)
theorem dX7_lawWord_36 : decode cX7_lawWord 36 = .ok (.invokevirtual 58, 3) := dk_182 0 58 (dk_at dksX7_lawWord_1 13 rfl rfl)
theorem dX7_lawWord_39 : decode cX7_lawWord 39 = .ok (.ifCond .eq 6, 3) := dk_153 0 6 (dk_at dksX7_lawWord_1 16 rfl rfl)
theorem dX7_lawWord_42 : decode cX7_lawWord 42 = .ok (.bipush 6, 2) := dk_16 6 (dk_at dksX7_lawWord_1 19 rfl rfl)
theorem dX7_lawWord_44 : decode cX7_lawWord 44 = .ok (.ireturn, 1) := dk_172 (dk_at dksX7_lawWord_1 21 rfl rfl)
theorem dX7_lawWord_45 : decode cX7_lawWord 45 = .ok (.aload_n 0, 1) := dk_42 (dk_at dksX7_lawWord_1 22 rfl rfl)
theorem dX7_lawWord_46 : decode cX7_lawWord 46 = .ok (.ldc 90, 2) := dk_18 90 (dk_at dksX7_lawWord_2 0 rfl rfl)
theorem dX7_lawWord_48 : decode cX7_lawWord 48 = .ok (.invokevirtual 58, 3) := dk_182 0 58 (dk_at dksX7_lawWord_2 2 rfl rfl)
theorem dX7_lawWord_51 : decode cX7_lawWord 51 = .ok (.ifCond .eq 6, 3) := dk_153 0 6 (dk_at dksX7_lawWord_2 5 rfl rfl)
theorem dX7_lawWord_54 : decode cX7_lawWord 54 = .ok (.bipush 7, 2) := dk_16 7 (dk_at dksX7_lawWord_2 8 rfl rfl)
theorem dX7_lawWord_56 : decode cX7_lawWord 56 = .ok (.ireturn, 1) := dk_172 (dk_at dksX7_lawWord_2 10 rfl rfl)
theorem dX7_lawWord_57 : decode cX7_lawWord 57 = .ok (.aload_n 0, 1) := dk_42 (dk_at dksX7_lawWord_2 11 rfl rfl)
theorem dX7_lawWord_58 : decode cX7_lawWord 58 = .ok (.ldc 92, 2) := dk_18 92 (dk_at dksX7_lawWord_2 12 rfl rfl)
theorem dX7_lawWord_60 : decode cX7_lawWord 60 = .ok (.invokevirtual 58, 3) := dk_182 0 58 (dk_at dksX7_lawWord_2 14 rfl rfl)
theorem dX7_lawWord_63 : decode cX7_lawWord 63 = .ok (.ifCond .eq 6, 3) := dk_153 0 6 (dk_at dksX7_lawWord_2 17 rfl rfl)
theorem dX7_lawWord_66 : decode cX7_lawWord 66 = .ok (.bipush 8, 2) := dk_16 8 (dk_at dksX7_lawWord_2 20 rfl rfl)
theorem dX7_lawWord_68 : decode cX7_lawWord 68 = .ok (.ireturn, 1) := dk_172 (dk_at dksX7_lawWord_2 22 rfl rfl)
theorem dX7_lawWord_69 : decode cX7_lawWord 69 = .ok (.aload_n 0, 1) := dk_42 (dk_at dksX7_lawWord_2 23 rfl rfl)
theorem dX7_lawWord_70 : decode cX7_lawWord 70 = .ok (.ldc 94, 2) := dk_18 94 (dk_at dksX7_lawWord_3 0 rfl rfl)
theorem dX7_lawWord_72 : decode cX7_lawWord 72 = .ok (.invokevirtual 58, 3) := dk_182 0 58 (dk_at dksX7_lawWord_3 2 rfl rfl)
theorem dX7_lawWord_75 : decode cX7_lawWord 75 = .ok (.ifCond .eq 8, 3) := dk_153 0 8 (dk_at dksX7_lawWord_3 5 rfl rfl)
theorem dX7_lawWord_78 : decode cX7_lawWord 78 = .ok (.bipush 9, 2) := dk_16 9 (dk_at dksX7_lawWord_3 8 rfl rfl)
theorem dX7_lawWord_80 : decode cX7_lawWord 80 = .ok (.goto 7, 3) := dk_167 0 7 (dk_at dksX7_lawWord_3 10 rfl rfl)
theorem dX7_lawWord_83 : decode cX7_lawWord 83 = .ok (.aload_n 0, 1) := dk_42 (dk_at dksX7_lawWord_3 13 rfl rfl)
theorem dX7_lawWord_84 : decode cX7_lawWord 84 = .ok (.invokevirtual 96, 3) := dk_182 0 96 (dk_at dksX7_lawWord_3 14 rfl rfl)
theorem dX7_lawWord_87 : decode cX7_lawWord 87 = .ok (.ireturn, 1) := dk_172 (dk_at dksX7_lawWord_3 17 rfl rfl)
abbrev cX7_is : ByteArray := prog_13_method_5_code
def yX7_is : MethodName := ⟨RX7, "is", "(Ljava/lang/String;)Z"⟩
def dkwX7_is_2 : List UInt8 := [96, 51, 43, 29, 182, 0, 52, 160, 0, 7, 4, 167, 0, 4, 3, 61, 132, 3, 1, 167, 255, 213, 28, 172]
abbrev dktX7_is_2 : List UInt8 := dkwX7_is_2 ++ []
def dkwX7_is_1 : List UInt8 := [29, 43, 182, 0, 47, 162, 0, 41, 28, 153, 0, 37, 42, 180, 0, 3, 180, 0, 32, 42, 180, 0, 44, 29]
abbrev dktX7_is_1 : List UInt8 := dkwX7_is_1 ++ dktX7_is_2
def dkwX7_is_0 : List UInt8 := [42, 180, 0, 26, 42, 180, 0, 44, 100, 43, 182, 0, 47, 160, 0, 7, 4, 167, 0, 4, 3, 61, 3, 62]
abbrev dktX7_is_0 : List UInt8 := dkwX7_is_0 ++ dktX7_is_1
theorem dksX7_is_0 : cX7_is.data.toList.drop 0 = dktX7_is_0 := by decide +kernel
theorem dksX7_is_1 : cX7_is.data.toList.drop 24 = dktX7_is_1 := dk_seg dksX7_is_0 24 rfl rfl
theorem dksX7_is_2 : cX7_is.data.toList.drop 48 = dktX7_is_2 := dk_seg dksX7_is_1 24 rfl rfl
theorem dX7_is_0 : decode cX7_is 0 = .ok (.aload_n 0, 1) := dk_42 (dk_at dksX7_is_0 0 rfl rfl)
theorem dX7_is_1 : decode cX7_is 1 = .ok (.getfield 26, 3) := dk_180 0 26 (dk_at dksX7_is_0 1 rfl rfl)
theorem dX7_is_4 : decode cX7_is 4 = .ok (.aload_n 0, 1) := dk_42 (dk_at dksX7_is_0 4 rfl rfl)
theorem dX7_is_5 : decode cX7_is 5 = .ok (.getfield 44, 3) := dk_180 0 44 (dk_at dksX7_is_0 5 rfl rfl)
theorem dX7_is_8 : decode cX7_is 8 = .ok (.isub, 1) := dk_100 (dk_at dksX7_is_0 8 rfl rfl)
theorem dX7_is_9 : decode cX7_is 9 = .ok (.aload_n 1, 1) := dk_43 (dk_at dksX7_is_0 9 rfl rfl)
theorem dX7_is_10 : decode cX7_is 10 = .ok (.invokevirtual 47, 3) := dk_182 0 47 (dk_at dksX7_is_0 10 rfl rfl)
theorem dX7_is_13 : decode cX7_is 13 = .ok (.if_icmp .ne 7, 3) := dk_160 0 7 (dk_at dksX7_is_0 13 rfl rfl)
theorem dX7_is_16 : decode cX7_is 16 = .ok (.iconst 1, 1) := dk_4 (dk_at dksX7_is_0 16 rfl rfl)
theorem dX7_is_17 : decode cX7_is 17 = .ok (.goto 4, 3) := dk_167 0 4 (dk_at dksX7_is_0 17 rfl rfl)
theorem dX7_is_20 : decode cX7_is 20 = .ok (.iconst 0, 1) := dk_3 (dk_at dksX7_is_0 20 rfl rfl)
theorem dX7_is_21 : decode cX7_is 21 = .ok (.istore_n 2, 1) := dk_61 (dk_at dksX7_is_0 21 rfl rfl)
theorem dX7_is_22 : decode cX7_is 22 = .ok (.iconst 0, 1) := dk_3 (dk_at dksX7_is_0 22 rfl rfl)
theorem dX7_is_23 : decode cX7_is 23 = .ok (.istore_n 3, 1) := dk_62 (dk_at dksX7_is_0 23 rfl rfl)
theorem dX7_is_24 : decode cX7_is 24 = .ok (.iload_n 3, 1) := dk_29 (dk_at dksX7_is_1 0 rfl rfl)
theorem dX7_is_25 : decode cX7_is 25 = .ok (.aload_n 1, 1) := dk_43 (dk_at dksX7_is_1 1 rfl rfl)
theorem dX7_is_26 : decode cX7_is 26 = .ok (.invokevirtual 47, 3) := dk_182 0 47 (dk_at dksX7_is_1 2 rfl rfl)
theorem dX7_is_29 : decode cX7_is 29 = .ok (.if_icmp .ge 41, 3) := dk_162 0 41 (dk_at dksX7_is_1 5 rfl rfl)
theorem dX7_is_32 : decode cX7_is 32 = .ok (.iload_n 2, 1) := dk_28 (dk_at dksX7_is_1 8 rfl rfl)
theorem dX7_is_33 : decode cX7_is 33 = .ok (.ifCond .eq 37, 3) := dk_153 0 37 (dk_at dksX7_is_1 9 rfl rfl)
theorem dX7_is_36 : decode cX7_is 36 = .ok (.aload_n 0, 1) := dk_42 (dk_at dksX7_is_1 12 rfl rfl)
theorem dX7_is_37 : decode cX7_is 37 = .ok (.getfield 3, 3) := dk_180 0 3 (dk_at dksX7_is_1 13 rfl rfl)
theorem dX7_is_40 : decode cX7_is 40 = .ok (.getfield 32, 3) := dk_180 0 32 (dk_at dksX7_is_1 16 rfl rfl)
theorem dX7_is_43 : decode cX7_is 43 = .ok (.aload_n 0, 1) := dk_42 (dk_at dksX7_is_1 19 rfl rfl)
theorem dX7_is_44 : decode cX7_is 44 = .ok (.getfield 44, 3) := dk_180 0 44 (dk_at dksX7_is_1 20 rfl rfl)
theorem dX7_is_47 : decode cX7_is 47 = .ok (.iload_n 3, 1) := dk_29 (dk_at dksX7_is_1 23 rfl rfl)
theorem dX7_is_48 : decode cX7_is 48 = .ok (.iadd, 1) := dk_96 (dk_at dksX7_is_2 0 rfl rfl)
theorem dX7_is_49 : decode cX7_is 49 = .ok (.baload, 1) := dk_51 (dk_at dksX7_is_2 1 rfl rfl)
theorem dX7_is_50 : decode cX7_is 50 = .ok (.aload_n 1, 1) := dk_43 (dk_at dksX7_is_2 2 rfl rfl)
theorem dX7_is_51 : decode cX7_is 51 = .ok (.iload_n 3, 1) := dk_29 (dk_at dksX7_is_2 3 rfl rfl)
theorem dX7_is_52 : decode cX7_is 52 = .ok (.invokevirtual 52, 3) := dk_182 0 52 (dk_at dksX7_is_2 4 rfl rfl)
theorem dX7_is_55 : decode cX7_is 55 = .ok (.if_icmp .ne 7, 3) := dk_160 0 7 (dk_at dksX7_is_2 7 rfl rfl)
theorem dX7_is_58 : decode cX7_is 58 = .ok (.iconst 1, 1) := dk_4 (dk_at dksX7_is_2 10 rfl rfl)
theorem dX7_is_59 : decode cX7_is 59 = .ok (.goto 4, 3) := dk_167 0 4 (dk_at dksX7_is_2 11 rfl rfl)
theorem dX7_is_62 : decode cX7_is 62 = .ok (.iconst 0, 1) := dk_3 (dk_at dksX7_is_2 14 rfl rfl)
theorem dX7_is_63 : decode cX7_is 63 = .ok (.istore_n 2, 1) := dk_61 (dk_at dksX7_is_2 15 rfl rfl)
theorem dX7_is_64 : decode cX7_is 64 = .ok (.iinc 3 1, 3) := dk_132 3 1 (dk_at dksX7_is_2 16 rfl rfl)
theorem dX7_is_67 : decode cX7_is 67 = .ok (.goto (-43), 3) := dk_167 255 213 (dk_at dksX7_is_2 19 rfl rfl)
theorem dX7_is_70 : decode cX7_is 70 = .ok (.iload_n 2, 1) := dk_28 (dk_at dksX7_is_2 22 rfl rfl)
theorem dX7_is_71 : decode cX7_is 71 = .ok (.ireturn, 1) := dk_172 (dk_at dksX7_is_2 23 rfl rfl)
abbrev cX7_asked : ByteArray := prog_13_method_6_code
def yX7_asked : MethodName := ⟨RX7, "asked", "()I"⟩
def dkwX7_asked_6 : List UInt8 := [17, 0, 190, 167, 0, 4, 4, 172]
abbrev dktX7_asked_6 : List UInt8 := dkwX7_asked_6 ++ []
def dkwX7_asked_5 : List UInt8 := [172, 42, 18, 78, 182, 0, 58, 153, 0, 7, 17, 0, 189, 172, 42, 18, 80, 182, 0, 58, 153, 0, 9]
abbrev dktX7_asked_5 : List UInt8 := dkwX7_asked_5 ++ dktX7_asked_6
def dkwX7_asked_4 : List UInt8 := [18, 74, 182, 0, 58, 153, 0, 7, 17, 0, 187, 172, 42, 18, 76, 182, 0, 58, 153, 0, 7, 17, 0, 188]
abbrev dktX7_asked_4 : List UInt8 := dkwX7_asked_4 ++ dktX7_asked_5
def dkwX7_asked_3 : List UInt8 := [182, 0, 58, 153, 0, 7, 17, 0, 185, 172, 42, 18, 72, 182, 0, 58, 153, 0, 7, 17, 0, 186, 172, 42]
abbrev dktX7_asked_3 : List UInt8 := dkwX7_asked_3 ++ dktX7_asked_4
def dkwX7_asked_2 : List UInt8 := [153, 0, 7, 17, 0, 183, 172, 42, 18, 68, 182, 0, 58, 153, 0, 7, 17, 0, 184, 172, 42, 18, 70]
abbrev dktX7_asked_2 : List UInt8 := dkwX7_asked_2 ++ dktX7_asked_3
def dkwX7_asked_1 : List UInt8 := [17, 0, 181, 172, 42, 18, 64, 182, 0, 58, 153, 0, 7, 17, 0, 182, 172, 42, 18, 66, 182, 0, 58]
abbrev dktX7_asked_1 : List UInt8 := dkwX7_asked_1 ++ dktX7_asked_2
def dkwX7_asked_0 : List UInt8 := [42, 18, 56, 182, 0, 58, 153, 0, 7, 17, 0, 180, 172, 42, 18, 62, 182, 0, 58, 153, 0, 7]
abbrev dktX7_asked_0 : List UInt8 := dkwX7_asked_0 ++ dktX7_asked_1
theorem dksX7_asked_0 : cX7_asked.data.toList.drop 0 = dktX7_asked_0 := by decide +kernel
theorem dksX7_asked_1 : cX7_asked.data.toList.drop 22 = dktX7_asked_1 := dk_seg dksX7_asked_0 22 rfl rfl
theorem dksX7_asked_2 : cX7_asked.data.toList.drop 45 = dktX7_asked_2 := dk_seg dksX7_asked_1 23 rfl rfl
theorem dksX7_asked_3 : cX7_asked.data.toList.drop 68 = dktX7_asked_3 := dk_seg dksX7_asked_2 23 rfl rfl
theorem dksX7_asked_4 : cX7_asked.data.toList.drop 92 = dktX7_asked_4 := dk_seg dksX7_asked_3 24 rfl rfl
theorem dksX7_asked_5 : cX7_asked.data.toList.drop 116 = dktX7_asked_5 := dk_seg dksX7_asked_4 24 rfl rfl
theorem dksX7_asked_6 : cX7_asked.data.toList.drop 139 = dktX7_asked_6 := dk_seg dksX7_asked_5 23 rfl rfl
theorem dX7_asked_0 : decode cX7_asked 0 = .ok (.aload_n 0, 1) := dk_42 (dk_at dksX7_asked_0 0 rfl rfl)
theorem dX7_asked_1 : decode cX7_asked 1 = .ok (.ldc 56, 2) := dk_18 56 (dk_at dksX7_asked_0 1 rfl rfl)
theorem dX7_asked_3 : decode cX7_asked 3 = .ok (.invokevirtual 58, 3) := dk_182 0 58 (dk_at dksX7_asked_0 3 rfl rfl)
theorem dX7_asked_6 : decode cX7_asked 6 = .ok (.ifCond .eq 7, 3) := dk_153 0 7 (dk_at dksX7_asked_0 6 rfl rfl)
theorem dX7_asked_9 : decode cX7_asked 9 = .ok (.sipush 180, 3) := dk_17 0 180 (dk_at dksX7_asked_0 9 rfl rfl)
theorem dX7_asked_12 : decode cX7_asked 12 = .ok (.ireturn, 1) := dk_172 (dk_at dksX7_asked_0 12 rfl rfl)
theorem dX7_asked_13 : decode cX7_asked 13 = .ok (.aload_n 0, 1) := dk_42 (dk_at dksX7_asked_0 13 rfl rfl)
theorem dX7_asked_14 : decode cX7_asked 14 = .ok (.ldc 62, 2) := dk_18 62 (dk_at dksX7_asked_0 14 rfl rfl)
theorem dX7_asked_16 : decode cX7_asked 16 = .ok (.invokevirtual 58, 3) := dk_182 0 58 (dk_at dksX7_asked_0 16 rfl rfl)
theorem dX7_asked_19 : decode cX7_asked 19 = .ok (.ifCond .eq 7, 3) := dk_153 0 7 (dk_at dksX7_asked_0 19 rfl rfl)
theorem dX7_asked_22 : decode cX7_asked 22 = .ok (.sipush 181, 3) := dk_17 0 181 (dk_at dksX7_asked_1 0 rfl rfl)
theorem dX7_asked_25 : decode cX7_asked 25 = .ok (.ireturn, 1) := dk_172 (dk_at dksX7_asked_1 3 rfl rfl)
theorem dX7_asked_26 : decode cX7_asked 26 = .ok (.aload_n 0, 1) := dk_42 (dk_at dksX7_asked_1 4 rfl rfl)
theorem dX7_asked_27 : decode cX7_asked 27 = .ok (.ldc 64, 2) := dk_18 64 (dk_at dksX7_asked_1 5 rfl rfl)
theorem dX7_asked_29 : decode cX7_asked 29 = .ok (.invokevirtual 58, 3) := dk_182 0 58 (dk_at dksX7_asked_1 7 rfl rfl)
theorem dX7_asked_32 : decode cX7_asked 32 = .ok (.ifCond .eq 7, 3) := dk_153 0 7 (dk_at dksX7_asked_1 10 rfl rfl)
theorem dX7_asked_35 : decode cX7_asked 35 = .ok (.sipush 182, 3) := dk_17 0 182 (dk_at dksX7_asked_1 13 rfl rfl)
theorem dX7_asked_38 : decode cX7_asked 38 = .ok (.ireturn, 1) := dk_172 (dk_at dksX7_asked_1 16 rfl rfl)
theorem dX7_asked_39 : decode cX7_asked 39 = .ok (.aload_n 0, 1) := dk_42 (dk_at dksX7_asked_1 17 rfl rfl)
theorem dX7_asked_40 : decode cX7_asked 40 = .ok (.ldc 66, 2) := dk_18 66 (dk_at dksX7_asked_1 18 rfl rfl)
theorem dX7_asked_42 : decode cX7_asked 42 = .ok (.invokevirtual 58, 3) := dk_182 0 58 (dk_at dksX7_asked_1 20 rfl rfl)
theorem dX7_asked_45 : decode cX7_asked 45 = .ok (.ifCond .eq 7, 3) := dk_153 0 7 (dk_at dksX7_asked_2 0 rfl rfl)
theorem dX7_asked_48 : decode cX7_asked 48 = .ok (.sipush 183, 3) := dk_17 0 183 (dk_at dksX7_asked_2 3 rfl rfl)
theorem dX7_asked_51 : decode cX7_asked 51 = .ok (.ireturn, 1) := dk_172 (dk_at dksX7_asked_2 6 rfl rfl)
theorem dX7_asked_52 : decode cX7_asked 52 = .ok (.aload_n 0, 1) := dk_42 (dk_at dksX7_asked_2 7 rfl rfl)
theorem dX7_asked_53 : decode cX7_asked 53 = .ok (.ldc 68, 2) := dk_18 68 (dk_at dksX7_asked_2 8 rfl rfl)
theorem dX7_asked_55 : decode cX7_asked 55 = .ok (.invokevirtual 58, 3) := dk_182 0 58 (dk_at dksX7_asked_2 10 rfl rfl)
theorem dX7_asked_58 : decode cX7_asked 58 = .ok (.ifCond .eq 7, 3) := dk_153 0 7 (dk_at dksX7_asked_2 13 rfl rfl)
theorem dX7_asked_61 : decode cX7_asked 61 = .ok (.sipush 184, 3) := dk_17 0 184 (dk_at dksX7_asked_2 16 rfl rfl)
theorem dX7_asked_64 : decode cX7_asked 64 = .ok (.ireturn, 1) := dk_172 (dk_at dksX7_asked_2 19 rfl rfl)
theorem dX7_asked_65 : decode cX7_asked 65 = .ok (.aload_n 0, 1) := dk_42 (dk_at dksX7_asked_2 20 rfl rfl)
theorem dX7_asked_66 : decode cX7_asked 66 = .ok (.ldc 70, 2) := dk_18 70 (dk_at dksX7_asked_2 21 rfl rfl)
theorem dX7_asked_68 : decode cX7_asked 68 = .ok (.invokevirtual 58, 3) := dk_182 0 58 (dk_at dksX7_asked_3 0 rfl rfl)
theorem dX7_asked_71 : decode cX7_asked 71 = .ok (.ifCond .eq 7, 3) := dk_153 0 7 (dk_at dksX7_asked_3 3 rfl rfl)
theorem dX7_asked_74 : decode cX7_asked 74 = .ok (.sipush 185, 3) := dk_17 0 185 (dk_at dksX7_asked_3 6 rfl rfl)
theorem dX7_asked_77 : decode cX7_asked 77 = .ok (.ireturn, 1) := dk_172 (dk_at dksX7_asked_3 9 rfl rfl)
theorem dX7_asked_78 : decode cX7_asked 78 = .ok (.aload_n 0, 1) := dk_42 (dk_at dksX7_asked_3 10 rfl rfl)
theorem dX7_asked_79 : decode cX7_asked 79 = .ok (.ldc 72, 2) := dk_18 72 (dk_at dksX7_asked_3 11 rfl rfl)
theorem dX7_asked_81 : decode cX7_asked 81 = .ok (.invokevirtual 58, 3) := dk_182 0 58 (dk_at dksX7_asked_3 13 rfl rfl)
theorem dX7_asked_84 : decode cX7_asked 84 = .ok (.ifCond .eq 7, 3) := dk_153 0 7 (dk_at dksX7_asked_3 16 rfl rfl)
theorem dX7_asked_87 : decode cX7_asked 87 = .ok (.sipush 186, 3) := dk_17 0 186 (dk_at dksX7_asked_3 19 rfl rfl)
theorem dX7_asked_90 : decode cX7_asked 90 = .ok (.ireturn, 1) := dk_172 (dk_at dksX7_asked_3 22 rfl rfl)
theorem dX7_asked_91 : decode cX7_asked 91 = .ok (.aload_n 0, 1) := dk_42 (dk_at dksX7_asked_3 23 rfl rfl)
theorem dX7_asked_92 : decode cX7_asked 92 = .ok (.ldc 74, 2) := dk_18 74 (dk_at dksX7_asked_4 0 rfl rfl)
theorem dX7_asked_94 : decode cX7_asked 94 = .ok (.invokevirtual 58, 3) := dk_182 0 58 (dk_at dksX7_asked_4 2 rfl rfl)
theorem dX7_asked_97 : decode cX7_asked 97 = .ok (.ifCond .eq 7, 3) := dk_153 0 7 (dk_at dksX7_asked_4 5 rfl rfl)
theorem dX7_asked_100 : decode cX7_asked 100 = .ok (.sipush 187, 3) := dk_17 0 187 (dk_at dksX7_asked_4 8 rfl rfl)
theorem dX7_asked_103 : decode cX7_asked 103 = .ok (.ireturn, 1) := dk_172 (dk_at dksX7_asked_4 11 rfl rfl)
theorem dX7_asked_104 : decode cX7_asked 104 = .ok (.aload_n 0, 1) := dk_42 (dk_at dksX7_asked_4 12 rfl rfl)
theorem dX7_asked_105 : decode cX7_asked 105 = .ok (.ldc 76, 2) := dk_18 76 (dk_at dksX7_asked_4 13 rfl rfl)
theorem dX7_asked_107 : decode cX7_asked 107 = .ok (.invokevirtual 58, 3) := dk_182 0 58 (dk_at dksX7_asked_4 15 rfl rfl)
theorem dX7_asked_110 : decode cX7_asked 110 = .ok (.ifCond .eq 7, 3) := dk_153 0 7 (dk_at dksX7_asked_4 18 rfl rfl)
theorem dX7_asked_113 : decode cX7_asked 113 = .ok (.sipush 188, 3) := dk_17 0 188 (dk_at dksX7_asked_4 21 rfl rfl)
theorem dX7_asked_116 : decode cX7_asked 116 = .ok (.ireturn, 1) := dk_172 (dk_at dksX7_asked_5 0 rfl rfl)
theorem dX7_asked_117 : decode cX7_asked 117 = .ok (.aload_n 0, 1) := dk_42 (dk_at dksX7_asked_5 1 rfl rfl)
theorem dX7_asked_118 : decode cX7_asked 118 = .ok (.ldc 78, 2) := dk_18 78 (dk_at dksX7_asked_5 2 rfl rfl)
theorem dX7_asked_120 : decode cX7_asked 120 = .ok (.invokevirtual 58, 3) := dk_182 0 58 (dk_at dksX7_asked_5 4 rfl rfl)
theorem dX7_asked_123 : decode cX7_asked 123 = .ok (.ifCond .eq 7, 3) := dk_153 0 7 (dk_at dksX7_asked_5 7 rfl rfl)
theorem dX7_asked_126 : decode cX7_asked 126 = .ok (.sipush 189, 3) := dk_17 0 189 (dk_at dksX7_asked_5 10 rfl rfl)
theorem dX7_asked_129 : decode cX7_asked 129 = .ok (.ireturn, 1) := dk_172 (dk_at dksX7_asked_5 13 rfl rfl)
theorem dX7_asked_130 : decode cX7_asked 130 = .ok (.aload_n 0, 1) := dk_42 (dk_at dksX7_asked_5 14 rfl rfl)
theorem dX7_asked_131 : decode cX7_asked 131 = .ok (.ldc 80, 2) := dk_18 80 (dk_at dksX7_asked_5 15 rfl rfl)
theorem dX7_asked_133 : decode cX7_asked 133 = .ok (.invokevirtual 58, 3) := dk_182 0 58 (dk_at dksX7_asked_5 17 rfl rfl)
theorem dX7_asked_136 : decode cX7_asked 136 = .ok (.ifCond .eq 9, 3) := dk_153 0 9 (dk_at dksX7_asked_5 20 rfl rfl)
theorem dX7_asked_139 : decode cX7_asked 139 = .ok (.sipush 190, 3) := dk_17 0 190 (dk_at dksX7_asked_6 0 rfl rfl)
theorem dX7_asked_142 : decode cX7_asked 142 = .ok (.goto 4, 3) := dk_167 0 4 (dk_at dksX7_asked_6 3 rfl rfl)
theorem dX7_asked_145 : decode cX7_asked 145 = .ok (.iconst 1, 1) := dk_4 (dk_at dksX7_asked_6 6 rfl rfl)
theorem dX7_asked_146 : decode cX7_asked 146 = .ok (.ireturn, 1) := dk_172 (dk_at dksX7_asked_6 7 rfl rfl)
abbrev cX7_postWord : ByteArray := prog_13_method_8_code
def yX7_postWord : MethodName := ⟨RX7, "postWord", "()I"⟩
def dkwX7_postWord_4 : List UInt8 := [42, 18, 115, 182, 0, 58, 153, 0, 8, 16, 26, 167, 0, 4, 4, 172]
abbrev dktX7_postWord_4 : List UInt8 := dkwX7_postWord_4 ++ []
def dkwX7_postWord_3 : List UInt8 := [42, 18, 111, 182, 0, 58, 153, 0, 6, 16, 24, 172, 42, 18, 113, 182, 0, 58, 153, 0, 6, 16, 25, 172]
abbrev dktX7_postWord_3 : List UInt8 := dkwX7_postWord_3 ++ dktX7_postWord_4
def dkwX7_postWord_2 : List UInt8 := [42, 18, 107, 182, 0, 58, 153, 0, 6, 16, 22, 172, 42, 18, 109, 182, 0, 58, 153, 0, 6, 16, 23, 172]
abbrev dktX7_postWord_2 : List UInt8 := dkwX7_postWord_2 ++ dktX7_postWord_3
def dkwX7_postWord_1 : List UInt8 := [42, 18, 103, 182, 0, 58, 153, 0, 6, 16, 20, 172, 42, 18, 105, 182, 0, 58, 153, 0, 6, 16, 21, 172]
abbrev dktX7_postWord_1 : List UInt8 := dkwX7_postWord_1 ++ dktX7_postWord_2
def dkwX7_postWord_0 : List UInt8 := [42, 18, 99, 182, 0, 58, 153, 0, 6, 16, 10, 172, 42, 18, 101, 182, 0, 58, 153, 0, 6, 16, 11, 172]
abbrev dktX7_postWord_0 : List UInt8 := dkwX7_postWord_0 ++ dktX7_postWord_1
theorem dksX7_postWord_0 : cX7_postWord.data.toList.drop 0 = dktX7_postWord_0 := by decide +kernel
theorem dksX7_postWord_1 : cX7_postWord.data.toList.drop 24 = dktX7_postWord_1 := dk_seg dksX7_postWord_0 24 rfl rfl
theorem dksX7_postWord_2 : cX7_postWord.data.toList.drop 48 = dktX7_postWord_2 := dk_seg dksX7_postWord_1 24 rfl rfl
theorem dksX7_postWord_3 : cX7_postWord.data.toList.drop 72 = dktX7_postWord_3 := dk_seg dksX7_postWord_2 24 rfl rfl
theorem dksX7_postWord_4 : cX7_postWord.data.toList.drop 96 = dktX7_postWord_4 := dk_seg dksX7_postWord_3 24 rfl rfl
theorem dX7_postWord_0 : decode cX7_postWord 0 = .ok (.aload_n 0, 1) := dk_42 (dk_at dksX7_postWord_0 0 rfl rfl)
theorem dX7_postWord_1 : decode cX7_postWord 1 = .ok (.ldc 99, 2) := dk_18 99 (dk_at dksX7_postWord_0 1 rfl rfl)
theorem dX7_postWord_3 : decode cX7_postWord 3 = .ok (.invokevirtual 58, 3) := dk_182 0 58 (dk_at dksX7_postWord_0 3 rfl rfl)
theorem dX7_postWord_6 : decode cX7_postWord 6 = .ok (.ifCond .eq 6, 3) := dk_153 0 6 (dk_at dksX7_postWord_0 6 rfl rfl)
theorem dX7_postWord_9 : decode cX7_postWord 9 = .ok (.bipush 10, 2) := dk_16 10 (dk_at dksX7_postWord_0 9 rfl rfl)
theorem dX7_postWord_11 : decode cX7_postWord 11 = .ok (.ireturn, 1) := dk_172 (dk_at dksX7_postWord_0 11 rfl rfl)
theorem dX7_postWord_12 : decode cX7_postWord 12 = .ok (.aload_n 0, 1) := dk_42 (dk_at dksX7_postWord_0 12 rfl rfl)
theorem dX7_postWord_13 : decode cX7_postWord 13 = .ok (.ldc 101, 2) := dk_18 101 (dk_at dksX7_postWord_0 13 rfl rfl)
theorem dX7_postWord_15 : decode cX7_postWord 15 = .ok (.invokevirtual 58, 3) := dk_182 0 58 (dk_at dksX7_postWord_0 15 rfl rfl)
theorem dX7_postWord_18 : decode cX7_postWord 18 = .ok (.ifCond .eq 6, 3) := dk_153 0 6 (dk_at dksX7_postWord_0 18 rfl rfl)
theorem dX7_postWord_21 : decode cX7_postWord 21 = .ok (.bipush 11, 2) := dk_16 11 (dk_at dksX7_postWord_0 21 rfl rfl)
theorem dX7_postWord_23 : decode cX7_postWord 23 = .ok (.ireturn, 1) := dk_172 (dk_at dksX7_postWord_0 23 rfl rfl)
theorem dX7_postWord_24 : decode cX7_postWord 24 = .ok (.aload_n 0, 1) := dk_42 (dk_at dksX7_postWord_1 0 rfl rfl)
theorem dX7_postWord_25 : decode cX7_postWord 25 = .ok (.ldc 103, 2) := dk_18 103 (dk_at dksX7_postWord_1 1 rfl rfl)
theorem dX7_postWord_27 : decode cX7_postWord 27 = .ok (.invokevirtual 58, 3) := dk_182 0 58 (dk_at dksX7_postWord_1 3 rfl rfl)
theorem dX7_postWord_30 : decode cX7_postWord 30 = .ok (.ifCond .eq 6, 3) := dk_153 0 6 (dk_at dksX7_postWord_1 6 rfl rfl)
theorem dX7_postWord_33 : decode cX7_postWord 33 = .ok (.bipush 20, 2) := dk_16 20 (dk_at dksX7_postWord_1 9 rfl rfl)
theorem dX7_postWord_35 : decode cX7_postWord 35 = .ok (.ireturn, 1) := dk_172 (dk_at dksX7_postWord_1 11 rfl rfl)
theorem dX7_postWord_36 : decode cX7_postWord 36 = .ok (.aload_n 0, 1) := dk_42 (dk_at dksX7_postWord_1 12 rfl rfl)
theorem dX7_postWord_37 : decode cX7_postWord 37 = .ok (.ldc 105, 2) := dk_18 105 (dk_at dksX7_postWord_1 13 rfl rfl)
theorem dX7_postWord_39 : decode cX7_postWord 39 = .ok (.invokevirtual 58, 3) := dk_182 0 58 (dk_at dksX7_postWord_1 15 rfl rfl)
theorem dX7_postWord_42 : decode cX7_postWord 42 = .ok (.ifCond .eq 6, 3) := dk_153 0 6 (dk_at dksX7_postWord_1 18 rfl rfl)
theorem dX7_postWord_45 : decode cX7_postWord 45 = .ok (.bipush 21, 2) := dk_16 21 (dk_at dksX7_postWord_1 21 rfl rfl)
theorem dX7_postWord_47 : decode cX7_postWord 47 = .ok (.ireturn, 1) := dk_172 (dk_at dksX7_postWord_1 23 rfl rfl)
theorem dX7_postWord_48 : decode cX7_postWord 48 = .ok (.aload_n 0, 1) := dk_42 (dk_at dksX7_postWord_2 0 rfl rfl)
theorem dX7_postWord_49 : decode cX7_postWord 49 = .ok (.ldc 107, 2) := dk_18 107 (dk_at dksX7_postWord_2 1 rfl rfl)
theorem dX7_postWord_51 : decode cX7_postWord 51 = .ok (.invokevirtual 58, 3) := dk_182 0 58 (dk_at dksX7_postWord_2 3 rfl rfl)
theorem dX7_postWord_54 : decode cX7_postWord 54 = .ok (.ifCond .eq 6, 3) := dk_153 0 6 (dk_at dksX7_postWord_2 6 rfl rfl)
theorem dX7_postWord_57 : decode cX7_postWord 57 = .ok (.bipush 22, 2) := dk_16 22 (dk_at dksX7_postWord_2 9 rfl rfl)
theorem dX7_postWord_59 : decode cX7_postWord 59 = .ok (.ireturn, 1) := dk_172 (dk_at dksX7_postWord_2 11 rfl rfl)
theorem dX7_postWord_60 : decode cX7_postWord 60 = .ok (.aload_n 0, 1) := dk_42 (dk_at dksX7_postWord_2 12 rfl rfl)
theorem dX7_postWord_61 : decode cX7_postWord 61 = .ok (.ldc 109, 2) := dk_18 109 (dk_at dksX7_postWord_2 13 rfl rfl)
theorem dX7_postWord_63 : decode cX7_postWord 63 = .ok (.invokevirtual 58, 3) := dk_182 0 58 (dk_at dksX7_postWord_2 15 rfl rfl)
theorem dX7_postWord_66 : decode cX7_postWord 66 = .ok (.ifCond .eq 6, 3) := dk_153 0 6 (dk_at dksX7_postWord_2 18 rfl rfl)
theorem dX7_postWord_69 : decode cX7_postWord 69 = .ok (.bipush 23, 2) := dk_16 23 (dk_at dksX7_postWord_2 21 rfl rfl)
theorem dX7_postWord_71 : decode cX7_postWord 71 = .ok (.ireturn, 1) := dk_172 (dk_at dksX7_postWord_2 23 rfl rfl)
theorem dX7_postWord_72 : decode cX7_postWord 72 = .ok (.aload_n 0, 1) := dk_42 (dk_at dksX7_postWord_3 0 rfl rfl)
theorem dX7_postWord_73 : decode cX7_postWord 73 = .ok (.ldc 111, 2) := dk_18 111 (dk_at dksX7_postWord_3 1 rfl rfl)
theorem dX7_postWord_75 : decode cX7_postWord 75 = .ok (.invokevirtual 58, 3) := dk_182 0 58 (dk_at dksX7_postWord_3 3 rfl rfl)
theorem dX7_postWord_78 : decode cX7_postWord 78 = .ok (.ifCond .eq 6, 3) := dk_153 0 6 (dk_at dksX7_postWord_3 6 rfl rfl)
theorem dX7_postWord_81 : decode cX7_postWord 81 = .ok (.bipush 24, 2) := dk_16 24 (dk_at dksX7_postWord_3 9 rfl rfl)
theorem dX7_postWord_83 : decode cX7_postWord 83 = .ok (.ireturn, 1) := dk_172 (dk_at dksX7_postWord_3 11 rfl rfl)
theorem dX7_postWord_84 : decode cX7_postWord 84 = .ok (.aload_n 0, 1) := dk_42 (dk_at dksX7_postWord_3 12 rfl rfl)
theorem dX7_postWord_85 : decode cX7_postWord 85 = .ok (.ldc 113, 2) := dk_18 113 (dk_at dksX7_postWord_3 13 rfl rfl)
theorem dX7_postWord_87 : decode cX7_postWord 87 = .ok (.invokevirtual 58, 3) := dk_182 0 58 (dk_at dksX7_postWord_3 15 rfl rfl)
theorem dX7_postWord_90 : decode cX7_postWord 90 = .ok (.ifCond .eq 6, 3) := dk_153 0 6 (dk_at dksX7_postWord_3 18 rfl rfl)
theorem dX7_postWord_93 : decode cX7_postWord 93 = .ok (.bipush 25, 2) := dk_16 25 (dk_at dksX7_postWord_3 21 rfl rfl)
theorem dX7_postWord_95 : decode cX7_postWord 95 = .ok (.ireturn, 1) := dk_172 (dk_at dksX7_postWord_3 23 rfl rfl)
theorem dX7_postWord_96 : decode cX7_postWord 96 = .ok (.aload_n 0, 1) := dk_42 (dk_at dksX7_postWord_4 0 rfl rfl)
theorem dX7_postWord_97 : decode cX7_postWord 97 = .ok (.ldc 115, 2) := dk_18 115 (dk_at dksX7_postWord_4 1 rfl rfl)
theorem dX7_postWord_99 : decode cX7_postWord 99 = .ok (.invokevirtual 58, 3) := dk_182 0 58 (dk_at dksX7_postWord_4 3 rfl rfl)
theorem dX7_postWord_102 : decode cX7_postWord 102 = .ok (.ifCond .eq 8, 3) := dk_153 0 8 (dk_at dksX7_postWord_4 6 rfl rfl)
theorem dX7_postWord_105 : decode cX7_postWord 105 = .ok (.bipush 26, 2) := dk_16 26 (dk_at dksX7_postWord_4 9 rfl rfl)
theorem dX7_postWord_107 : decode cX7_postWord 107 = .ok (.goto 4, 3) := dk_167 0 4 (dk_at dksX7_postWord_4 11 rfl rfl)
theorem dX7_postWord_110 : decode cX7_postWord 110 = .ok (.iconst 1, 1) := dk_4 (dk_at dksX7_postWord_4 14 rfl rfl)
theorem dX7_postWord_111 : decode cX7_postWord 111 = .ok (.ireturn, 1) := dk_172 (dk_at dksX7_postWord_4 15 rfl rfl)
abbrev cX7_isDigit : ByteArray := prog_13_method_4_code
def yX7_isDigit : MethodName := ⟨RX7, "isDigit", "()Z"⟩
def dkwX7_isDigit_0 : List UInt8 := [42, 182, 0, 36, 16, 48, 16, 57, 184, 0, 40, 172]
abbrev dktX7_isDigit_0 : List UInt8 := dkwX7_isDigit_0 ++ []
theorem dksX7_isDigit_0 : cX7_isDigit.data.toList.drop 0 = dktX7_isDigit_0 := by decide +kernel
theorem dX7_isDigit_0 : decode cX7_isDigit 0 = .ok (.aload_n 0, 1) := dk_42 (dk_at dksX7_isDigit_0 0 rfl rfl)
theorem dX7_isDigit_1 : decode cX7_isDigit 1 = .ok (.invokevirtual 36, 3) := dk_182 0 36 (dk_at dksX7_isDigit_0 1 rfl rfl)
theorem dX7_isDigit_4 : decode cX7_isDigit 4 = .ok (.bipush 48, 2) := dk_16 48 (dk_at dksX7_isDigit_0 4 rfl rfl)
theorem dX7_isDigit_6 : decode cX7_isDigit 6 = .ok (.bipush 57, 2) := dk_16 57 (dk_at dksX7_isDigit_0 6 rfl rfl)
theorem dX7_isDigit_8 : decode cX7_isDigit 8 = .ok (.invokestatic 40, 3) := dk_184 0 40 (dk_at dksX7_isDigit_0 8 rfl rfl)
theorem dX7_isDigit_11 : decode cX7_isDigit 11 = .ok (.ireturn, 1) := dk_172 (dk_at dksX7_isDigit_0 11 rfl rfl)
abbrev cX7_isMark : ByteArray := prog_13_method_12_code
def yX7_isMark : MethodName := ⟨RX7, "isMark", "(I)Z"⟩
def dkwX7_isMark_2 : List UInt8 := [27, 16, 61, 159, 0, 9, 27, 16, 62, 160, 0, 7, 4, 167, 0, 4, 3, 172]
abbrev dktX7_isMark_2 : List UInt8 := dkwX7_isMark_2 ++ []
def dkwX7_isMark_1 : List UInt8 := [27, 16, 47, 159, 0, 33, 27, 16, 40, 159, 0, 27, 27, 16, 41, 159, 0, 21, 27, 16, 60, 159, 0, 15]
abbrev dktX7_isMark_1 : List UInt8 := dkwX7_isMark_1 ++ dktX7_isMark_2
def dkwX7_isMark_0 : List UInt8 := [27, 16, 59, 159, 0, 57, 27, 16, 43, 159, 0, 51, 27, 16, 45, 159, 0, 45, 27, 16, 42, 159, 0, 39]
abbrev dktX7_isMark_0 : List UInt8 := dkwX7_isMark_0 ++ dktX7_isMark_1
theorem dksX7_isMark_0 : cX7_isMark.data.toList.drop 0 = dktX7_isMark_0 := by decide +kernel
theorem dksX7_isMark_1 : cX7_isMark.data.toList.drop 24 = dktX7_isMark_1 := dk_seg dksX7_isMark_0 24 rfl rfl
theorem dksX7_isMark_2 : cX7_isMark.data.toList.drop 48 = dktX7_isMark_2 := dk_seg dksX7_isMark_1 24 rfl rfl
theorem dX7_isMark_0 : decode cX7_isMark 0 = .ok (.iload_n 1, 1) := dk_27 (dk_at dksX7_isMark_0 0 rfl rfl)
theorem dX7_isMark_1 : decode cX7_isMark 1 = .ok (.bipush 59, 2) := dk_16 59 (dk_at dksX7_isMark_0 1 rfl rfl)
theorem dX7_isMark_3 : decode cX7_isMark 3 = .ok (.if_icmp .eq 57, 3) := dk_159 0 57 (dk_at dksX7_isMark_0 3 rfl rfl)
theorem dX7_isMark_6 : decode cX7_isMark 6 = .ok (.iload_n 1, 1) := dk_27 (dk_at dksX7_isMark_0 6 rfl rfl)
theorem dX7_isMark_7 : decode cX7_isMark 7 = .ok (.bipush 43, 2) := dk_16 43 (dk_at dksX7_isMark_0 7 rfl rfl)
theorem dX7_isMark_9 : decode cX7_isMark 9 = .ok (.if_icmp .eq 51, 3) := dk_159 0 51 (dk_at dksX7_isMark_0 9 rfl rfl)
theorem dX7_isMark_12 : decode cX7_isMark 12 = .ok (.iload_n 1, 1) := dk_27 (dk_at dksX7_isMark_0 12 rfl rfl)
theorem dX7_isMark_13 : decode cX7_isMark 13 = .ok (.bipush 45, 2) := dk_16 45 (dk_at dksX7_isMark_0 13 rfl rfl)
theorem dX7_isMark_15 : decode cX7_isMark 15 = .ok (.if_icmp .eq 45, 3) := dk_159 0 45 (dk_at dksX7_isMark_0 15 rfl rfl)
theorem dX7_isMark_18 : decode cX7_isMark 18 = .ok (.iload_n 1, 1) := dk_27 (dk_at dksX7_isMark_0 18 rfl rfl)
theorem dX7_isMark_19 : decode cX7_isMark 19 = .ok (.bipush 42, 2) := dk_16 42 (dk_at dksX7_isMark_0 19 rfl rfl)
theorem dX7_isMark_21 : decode cX7_isMark 21 = .ok (.if_icmp .eq 39, 3) := dk_159 0 39 (dk_at dksX7_isMark_0 21 rfl rfl)
theorem dX7_isMark_24 : decode cX7_isMark 24 = .ok (.iload_n 1, 1) := dk_27 (dk_at dksX7_isMark_1 0 rfl rfl)
theorem dX7_isMark_25 : decode cX7_isMark 25 = .ok (.bipush 47, 2) := dk_16 47 (dk_at dksX7_isMark_1 1 rfl rfl)
theorem dX7_isMark_27 : decode cX7_isMark 27 = .ok (.if_icmp .eq 33, 3) := dk_159 0 33 (dk_at dksX7_isMark_1 3 rfl rfl)
theorem dX7_isMark_30 : decode cX7_isMark 30 = .ok (.iload_n 1, 1) := dk_27 (dk_at dksX7_isMark_1 6 rfl rfl)
theorem dX7_isMark_31 : decode cX7_isMark 31 = .ok (.bipush 40, 2) := dk_16 40 (dk_at dksX7_isMark_1 7 rfl rfl)
theorem dX7_isMark_33 : decode cX7_isMark 33 = .ok (.if_icmp .eq 27, 3) := dk_159 0 27 (dk_at dksX7_isMark_1 9 rfl rfl)
theorem dX7_isMark_36 : decode cX7_isMark 36 = .ok (.iload_n 1, 1) := dk_27 (dk_at dksX7_isMark_1 12 rfl rfl)
theorem dX7_isMark_37 : decode cX7_isMark 37 = .ok (.bipush 41, 2) := dk_16 41 (dk_at dksX7_isMark_1 13 rfl rfl)
theorem dX7_isMark_39 : decode cX7_isMark 39 = .ok (.if_icmp .eq 21, 3) := dk_159 0 21 (dk_at dksX7_isMark_1 15 rfl rfl)
theorem dX7_isMark_42 : decode cX7_isMark 42 = .ok (.iload_n 1, 1) := dk_27 (dk_at dksX7_isMark_1 18 rfl rfl)
theorem dX7_isMark_43 : decode cX7_isMark 43 = .ok (.bipush 60, 2) := dk_16 60 (dk_at dksX7_isMark_1 19 rfl rfl)
theorem dX7_isMark_45 : decode cX7_isMark 45 = .ok (.if_icmp .eq 15, 3) := dk_159 0 15 (dk_at dksX7_isMark_1 21 rfl rfl)
theorem dX7_isMark_48 : decode cX7_isMark 48 = .ok (.iload_n 1, 1) := dk_27 (dk_at dksX7_isMark_2 0 rfl rfl)
theorem dX7_isMark_49 : decode cX7_isMark 49 = .ok (.bipush 61, 2) := dk_16 61 (dk_at dksX7_isMark_2 1 rfl rfl)
theorem dX7_isMark_51 : decode cX7_isMark 51 = .ok (.if_icmp .eq 9, 3) := dk_159 0 9 (dk_at dksX7_isMark_2 3 rfl rfl)
theorem dX7_isMark_54 : decode cX7_isMark 54 = .ok (.iload_n 1, 1) := dk_27 (dk_at dksX7_isMark_2 6 rfl rfl)
theorem dX7_isMark_55 : decode cX7_isMark 55 = .ok (.bipush 62, 2) := dk_16 62 (dk_at dksX7_isMark_2 7 rfl rfl)
theorem dX7_isMark_57 : decode cX7_isMark 57 = .ok (.if_icmp .ne 7, 3) := dk_160 0 7 (dk_at dksX7_isMark_2 9 rfl rfl)
theorem dX7_isMark_60 : decode cX7_isMark 60 = .ok (.iconst 1, 1) := dk_4 (dk_at dksX7_isMark_2 12 rfl rfl)
theorem dX7_isMark_61 : decode cX7_isMark 61 = .ok (.goto 4, 3) := dk_167 0 4 (dk_at dksX7_isMark_2 13 rfl rfl)
theorem dX7_isMark_64 : decode cX7_isMark 64 = .ok (.iconst 0, 1) := dk_3 (dk_at dksX7_isMark_2 16 rfl rfl)
theorem dX7_isMark_65 : decode cX7_isMark 65 = .ok (.ireturn, 1) := dk_172 (dk_at dksX7_isMark_2 17 rfl rfl)
abbrev cX7_sum : ByteArray := prog_13_method_16_code
def yX7_sum : MethodName := ⟨RX7, "sum", "()LKindPostman$Term;"⟩
def dkwX7_sum_2 : List UInt8 := [167, 255, 215, 43, 176]
abbrev dktX7_sum_2 : List UInt8 := dkwX7_sum_2 ++ []
def dkwX7_sum_1 : List UInt8 := [180, 0, 126, 61, 42, 182, 0, 137, 187, 0, 173, 89, 43, 28, 42, 182, 0, 169, 183, 0, 175, 76]
abbrev dktX7_sum_1 : List UInt8 := dkwX7_sum_1 ++ dktX7_sum_2
def dkwX7_sum_0 : List UInt8 := [42, 182, 0, 169, 76, 42, 180, 0, 126, 16, 43, 159, 0, 12, 42, 180, 0, 126, 16, 45, 160, 0, 29, 42]
abbrev dktX7_sum_0 : List UInt8 := dkwX7_sum_0 ++ dktX7_sum_1
theorem dksX7_sum_0 : cX7_sum.data.toList.drop 0 = dktX7_sum_0 := by decide +kernel
theorem dksX7_sum_1 : cX7_sum.data.toList.drop 24 = dktX7_sum_1 := dk_seg dksX7_sum_0 24 rfl rfl
theorem dksX7_sum_2 : cX7_sum.data.toList.drop 46 = dktX7_sum_2 := dk_seg dksX7_sum_1 22 rfl rfl
theorem dX7_sum_0 : decode cX7_sum 0 = .ok (.aload_n 0, 1) := dk_42 (dk_at dksX7_sum_0 0 rfl rfl)
theorem dX7_sum_1 : decode cX7_sum 1 = .ok (.invokevirtual 169, 3) := dk_182 0 169 (dk_at dksX7_sum_0 1 rfl rfl)
theorem dX7_sum_4 : decode cX7_sum 4 = .ok (.astore_n 1, 1) := dk_76 (dk_at dksX7_sum_0 4 rfl rfl)
theorem dX7_sum_5 : decode cX7_sum 5 = .ok (.aload_n 0, 1) := dk_42 (dk_at dksX7_sum_0 5 rfl rfl)
theorem dX7_sum_6 : decode cX7_sum 6 = .ok (.getfield 126, 3) := dk_180 0 126 (dk_at dksX7_sum_0 6 rfl rfl)
theorem dX7_sum_9 : decode cX7_sum 9 = .ok (.bipush 43, 2) := dk_16 43 (dk_at dksX7_sum_0 9 rfl rfl)
theorem dX7_sum_11 : decode cX7_sum 11 = .ok (.if_icmp .eq 12, 3) := dk_159 0 12 (dk_at dksX7_sum_0 11 rfl rfl)
theorem dX7_sum_14 : decode cX7_sum 14 = .ok (.aload_n 0, 1) := dk_42 (dk_at dksX7_sum_0 14 rfl rfl)
theorem dX7_sum_15 : decode cX7_sum 15 = .ok (.getfield 126, 3) := dk_180 0 126 (dk_at dksX7_sum_0 15 rfl rfl)
theorem dX7_sum_18 : decode cX7_sum 18 = .ok (.bipush 45, 2) := dk_16 45 (dk_at dksX7_sum_0 18 rfl rfl)
theorem dX7_sum_20 : decode cX7_sum 20 = .ok (.if_icmp .ne 29, 3) := dk_160 0 29 (dk_at dksX7_sum_0 20 rfl rfl)
theorem dX7_sum_23 : decode cX7_sum 23 = .ok (.aload_n 0, 1) := dk_42 (dk_at dksX7_sum_0 23 rfl rfl)
theorem dX7_sum_24 : decode cX7_sum 24 = .ok (.getfield 126, 3) := dk_180 0 126 (dk_at dksX7_sum_1 0 rfl rfl)
theorem dX7_sum_27 : decode cX7_sum 27 = .ok (.istore_n 2, 1) := dk_61 (dk_at dksX7_sum_1 3 rfl rfl)
theorem dX7_sum_28 : decode cX7_sum 28 = .ok (.aload_n 0, 1) := dk_42 (dk_at dksX7_sum_1 4 rfl rfl)
theorem dX7_sum_29 : decode cX7_sum 29 = .ok (.invokevirtual 137, 3) := dk_182 0 137 (dk_at dksX7_sum_1 5 rfl rfl)
theorem dX7_sum_32 : decode cX7_sum 32 = .ok (.new 173, 3) := dk_187 0 173 (dk_at dksX7_sum_1 8 rfl rfl)
theorem dX7_sum_35 : decode cX7_sum 35 = .ok (.dup, 1) := dk_89 (dk_at dksX7_sum_1 11 rfl rfl)
theorem dX7_sum_36 : decode cX7_sum 36 = .ok (.aload_n 1, 1) := dk_43 (dk_at dksX7_sum_1 12 rfl rfl)
theorem dX7_sum_37 : decode cX7_sum 37 = .ok (.iload_n 2, 1) := dk_28 (dk_at dksX7_sum_1 13 rfl rfl)
theorem dX7_sum_38 : decode cX7_sum 38 = .ok (.aload_n 0, 1) := dk_42 (dk_at dksX7_sum_1 14 rfl rfl)
theorem dX7_sum_39 : decode cX7_sum 39 = .ok (.invokevirtual 169, 3) := dk_182 0 169 (dk_at dksX7_sum_1 15 rfl rfl)
theorem dX7_sum_42 : decode cX7_sum 42 = .ok (.invokespecial 175, 3) := dk_183 0 175 (dk_at dksX7_sum_1 18 rfl rfl)
theorem dX7_sum_45 : decode cX7_sum 45 = .ok (.astore_n 1, 1) := dk_76 (dk_at dksX7_sum_1 21 rfl rfl)
theorem dX7_sum_46 : decode cX7_sum 46 = .ok (.goto (-41), 3) := dk_167 255 215 (dk_at dksX7_sum_2 0 rfl rfl)
theorem dX7_sum_49 : decode cX7_sum 49 = .ok (.aload_n 1, 1) := dk_43 (dk_at dksX7_sum_2 3 rfl rfl)
theorem dX7_sum_50 : decode cX7_sum 50 = .ok (.areturn, 1) := dk_176 (dk_at dksX7_sum_2 4 rfl rfl)
abbrev cX7_product : ByteArray := prog_13_method_17_code
def yX7_product : MethodName := ⟨RX7, "product", "()LKindPostman$Term;"⟩
def dkwX7_product_3 : List UInt8 := [167, 255, 191, 43, 176]
abbrev dktX7_product_3 : List UInt8 := dkwX7_product_3 ++ []
def dkwX7_product_2 : List UInt8 := [42, 4, 17, 39, 15, 182, 0, 148, 183, 0, 183, 167, 0, 7, 42, 182, 0, 178, 183, 0, 175, 76]
abbrev dktX7_product_2 : List UInt8 := dkwX7_product_2 ++ dktX7_product_3
def dkwX7_product_1 : List UInt8 := [180, 0, 126, 61, 42, 182, 0, 137, 187, 0, 173, 89, 43, 28, 28, 16, 47, 160, 0, 21, 187, 0, 181, 89]
abbrev dktX7_product_1 : List UInt8 := dkwX7_product_1 ++ dktX7_product_2
def dkwX7_product_0 : List UInt8 := [42, 182, 0, 178, 76, 42, 180, 0, 126, 16, 42, 159, 0, 12, 42, 180, 0, 126, 16, 47, 160, 0, 53, 42]
abbrev dktX7_product_0 : List UInt8 := dkwX7_product_0 ++ dktX7_product_1
theorem dksX7_product_0 : cX7_product.data.toList.drop 0 = dktX7_product_0 := by decide +kernel
theorem dksX7_product_1 : cX7_product.data.toList.drop 24 = dktX7_product_1 := dk_seg dksX7_product_0 24 rfl rfl
theorem dksX7_product_2 : cX7_product.data.toList.drop 48 = dktX7_product_2 := dk_seg dksX7_product_1 24 rfl rfl
theorem dksX7_product_3 : cX7_product.data.toList.drop 70 = dktX7_product_3 := dk_seg dksX7_product_2 22 rfl rfl
theorem dX7_product_0 : decode cX7_product 0 = .ok (.aload_n 0, 1) := dk_42 (dk_at dksX7_product_0 0 rfl rfl)
theorem dX7_product_1 : decode cX7_product 1 = .ok (.invokevirtual 178, 3) := dk_182 0 178 (dk_at dksX7_product_0 1 rfl rfl)
theorem dX7_product_4 : decode cX7_product 4 = .ok (.astore_n 1, 1) := dk_76 (dk_at dksX7_product_0 4 rfl rfl)
theorem dX7_product_5 : decode cX7_product 5 = .ok (.aload_n 0, 1) := dk_42 (dk_at dksX7_product_0 5 rfl rfl)
theorem dX7_product_6 : decode cX7_product 6 = .ok (.getfield 126, 3) := dk_180 0 126 (dk_at dksX7_product_0 6 rfl rfl)
theorem dX7_product_9 : decode cX7_product 9 = .ok (.bipush 42, 2) := dk_16 42 (dk_at dksX7_product_0 9 rfl rfl)
theorem dX7_product_11 : decode cX7_product 11 = .ok (.if_icmp .eq 12, 3) := dk_159 0 12 (dk_at dksX7_product_0 11 rfl rfl)
theorem dX7_product_14 : decode cX7_product 14 = .ok (.aload_n 0, 1) := dk_42 (dk_at dksX7_product_0 14 rfl rfl)
theorem dX7_product_15 : decode cX7_product 15 = .ok (.getfield 126, 3) := dk_180 0 126 (dk_at dksX7_product_0 15 rfl rfl)
theorem dX7_product_18 : decode cX7_product 18 = .ok (.bipush 47, 2) := dk_16 47 (dk_at dksX7_product_0 18 rfl rfl)
theorem dX7_product_20 : decode cX7_product 20 = .ok (.if_icmp .ne 53, 3) := dk_160 0 53 (dk_at dksX7_product_0 20 rfl rfl)
theorem dX7_product_23 : decode cX7_product 23 = .ok (.aload_n 0, 1) := dk_42 (dk_at dksX7_product_0 23 rfl rfl)
theorem dX7_product_24 : decode cX7_product 24 = .ok (.getfield 126, 3) := dk_180 0 126 (dk_at dksX7_product_1 0 rfl rfl)
theorem dX7_product_27 : decode cX7_product 27 = .ok (.istore_n 2, 1) := dk_61 (dk_at dksX7_product_1 3 rfl rfl)
theorem dX7_product_28 : decode cX7_product 28 = .ok (.aload_n 0, 1) := dk_42 (dk_at dksX7_product_1 4 rfl rfl)
theorem dX7_product_29 : decode cX7_product 29 = .ok (.invokevirtual 137, 3) := dk_182 0 137 (dk_at dksX7_product_1 5 rfl rfl)
theorem dX7_product_32 : decode cX7_product 32 = .ok (.new 173, 3) := dk_187 0 173 (dk_at dksX7_product_1 8 rfl rfl)
theorem dX7_product_35 : decode cX7_product 35 = .ok (.dup, 1) := dk_89 (dk_at dksX7_product_1 11 rfl rfl)
theorem dX7_product_36 : decode cX7_product 36 = .ok (.aload_n 1, 1) := dk_43 (dk_at dksX7_product_1 12 rfl rfl)
theorem dX7_product_37 : decode cX7_product 37 = .ok (.iload_n 2, 1) := dk_28 (dk_at dksX7_product_1 13 rfl rfl)
theorem dX7_product_38 : decode cX7_product 38 = .ok (.iload_n 2, 1) := dk_28 (dk_at dksX7_product_1 14 rfl rfl)
theorem dX7_product_39 : decode cX7_product 39 = .ok (.bipush 47, 2) := dk_16 47 (dk_at dksX7_product_1 15 rfl rfl)
theorem dX7_product_41 : decode cX7_product 41 = .ok (.if_icmp .ne 21, 3) := dk_160 0 21 (dk_at dksX7_product_1 17 rfl rfl)
theorem dX7_product_44 : decode cX7_product 44 = .ok (.new 181, 3) := dk_187 0 181 (dk_at dksX7_product_1 20 rfl rfl)
theorem dX7_product_47 : decode cX7_product 47 = .ok (.dup, 1) := dk_89 (dk_at dksX7_product_1 23 rfl rfl)
theorem dX7_product_48 : decode cX7_product 48 = .ok (.aload_n 0, 1) := dk_42 (dk_at dksX7_product_2 0 rfl rfl)
theorem dX7_product_49 : decode cX7_product 49 = .ok (.iconst 1, 1) := dk_4 (dk_at dksX7_product_2 1 rfl rfl)
theorem dX7_product_50 : decode cX7_product 50 = .ok (.sipush 9999, 3) := dk_17 39 15 (dk_at dksX7_product_2 2 rfl rfl)
theorem dX7_product_53 : decode cX7_product 53 = .ok (.invokevirtual 148, 3) := dk_182 0 148 (dk_at dksX7_product_2 5 rfl rfl)
theorem dX7_product_56 : decode cX7_product 56 = .ok (.invokespecial 183, 3) := dk_183 0 183 (dk_at dksX7_product_2 8 rfl rfl)
theorem dX7_product_59 : decode cX7_product 59 = .ok (.goto 7, 3) := dk_167 0 7 (dk_at dksX7_product_2 11 rfl rfl)
theorem dX7_product_62 : decode cX7_product 62 = .ok (.aload_n 0, 1) := dk_42 (dk_at dksX7_product_2 14 rfl rfl)
theorem dX7_product_63 : decode cX7_product 63 = .ok (.invokevirtual 178, 3) := dk_182 0 178 (dk_at dksX7_product_2 15 rfl rfl)
theorem dX7_product_66 : decode cX7_product 66 = .ok (.invokespecial 175, 3) := dk_183 0 175 (dk_at dksX7_product_2 18 rfl rfl)
theorem dX7_product_69 : decode cX7_product 69 = .ok (.astore_n 1, 1) := dk_76 (dk_at dksX7_product_2 21 rfl rfl)
theorem dX7_product_70 : decode cX7_product 70 = .ok (.goto (-65), 3) := dk_167 255 191 (dk_at dksX7_product_3 0 rfl rfl)
theorem dX7_product_73 : decode cX7_product 73 = .ok (.aload_n 1, 1) := dk_43 (dk_at dksX7_product_3 3 rfl rfl)
theorem dX7_product_74 : decode cX7_product 74 = .ok (.areturn, 1) := dk_176 (dk_at dksX7_product_3 4 rfl rfl)
abbrev cX7_unit : ByteArray := prog_13_method_18_code
def yX7_unit : MethodName := ⟨RX7, "unit", "()LKindPostman$Term;"⟩
def dkwX7_unit_3 : List UInt8 := [27, 183, 0, 188, 176]
abbrev dktX7_unit_3 : List UInt8 := dkwX7_unit_3 ++ []
def dkwX7_unit_2 : List UInt8 := [180, 0, 44, 183, 0, 131, 191, 42, 180, 0, 126, 17, 0, 180, 100, 60, 42, 182, 0, 137, 187, 0, 186, 89]
abbrev dktX7_unit_2 : List UInt8 := dkwX7_unit_2 ++ dktX7_unit_3
def dkwX7_unit_1 : List UInt8 := [42, 180, 0, 126, 17, 0, 180, 17, 0, 190, 184, 0, 40, 154, 0, 16, 187, 0, 129, 89, 4, 42]
abbrev dktX7_unit_1 : List UInt8 := dkwX7_unit_1 ++ dktX7_unit_2
def dkwX7_unit_0 : List UInt8 := [42, 180, 0, 126, 5, 160, 0, 19, 187, 0, 181, 89, 42, 3, 17, 39, 15, 182, 0, 148, 183, 0, 183, 176]
abbrev dktX7_unit_0 : List UInt8 := dkwX7_unit_0 ++ dktX7_unit_1
theorem dksX7_unit_0 : cX7_unit.data.toList.drop 0 = dktX7_unit_0 := by decide +kernel
theorem dksX7_unit_1 : cX7_unit.data.toList.drop 24 = dktX7_unit_1 := dk_seg dksX7_unit_0 24 rfl rfl
theorem dksX7_unit_2 : cX7_unit.data.toList.drop 46 = dktX7_unit_2 := dk_seg dksX7_unit_1 22 rfl rfl
theorem dksX7_unit_3 : cX7_unit.data.toList.drop 70 = dktX7_unit_3 := dk_seg dksX7_unit_2 24 rfl rfl
theorem dX7_unit_0 : decode cX7_unit 0 = .ok (.aload_n 0, 1) := dk_42 (dk_at dksX7_unit_0 0 rfl rfl)
theorem dX7_unit_1 : decode cX7_unit 1 = .ok (.getfield 126, 3) := dk_180 0 126 (dk_at dksX7_unit_0 1 rfl rfl)
theorem dX7_unit_4 : decode cX7_unit 4 = .ok (.iconst 2, 1) := dk_5 (dk_at dksX7_unit_0 4 rfl rfl)
theorem dX7_unit_5 : decode cX7_unit 5 = .ok (.if_icmp .ne 19, 3) := dk_160 0 19 (dk_at dksX7_unit_0 5 rfl rfl)
theorem dX7_unit_8 : decode cX7_unit 8 = .ok (.new 181, 3) := dk_187 0 181 (dk_at dksX7_unit_0 8 rfl rfl)
theorem dX7_unit_11 : decode cX7_unit 11 = .ok (.dup, 1) := dk_89 (dk_at dksX7_unit_0 11 rfl rfl)
theorem dX7_unit_12 : decode cX7_unit 12 = .ok (.aload_n 0, 1) := dk_42 (dk_at dksX7_unit_0 12 rfl rfl)
theorem dX7_unit_13 : decode cX7_unit 13 = .ok (.iconst 0, 1) := dk_3 (dk_at dksX7_unit_0 13 rfl rfl)
theorem dX7_unit_14 : decode cX7_unit 14 = .ok (.sipush 9999, 3) := dk_17 39 15 (dk_at dksX7_unit_0 14 rfl rfl)
theorem dX7_unit_17 : decode cX7_unit 17 = .ok (.invokevirtual 148, 3) := dk_182 0 148 (dk_at dksX7_unit_0 17 rfl rfl)
theorem dX7_unit_20 : decode cX7_unit 20 = .ok (.invokespecial 183, 3) := dk_183 0 183 (dk_at dksX7_unit_0 20 rfl rfl)
theorem dX7_unit_23 : decode cX7_unit 23 = .ok (.areturn, 1) := dk_176 (dk_at dksX7_unit_0 23 rfl rfl)
theorem dX7_unit_24 : decode cX7_unit 24 = .ok (.aload_n 0, 1) := dk_42 (dk_at dksX7_unit_1 0 rfl rfl)
theorem dX7_unit_25 : decode cX7_unit 25 = .ok (.getfield 126, 3) := dk_180 0 126 (dk_at dksX7_unit_1 1 rfl rfl)
theorem dX7_unit_28 : decode cX7_unit 28 = .ok (.sipush 180, 3) := dk_17 0 180 (dk_at dksX7_unit_1 4 rfl rfl)
theorem dX7_unit_31 : decode cX7_unit 31 = .ok (.sipush 190, 3) := dk_17 0 190 (dk_at dksX7_unit_1 7 rfl rfl)
theorem dX7_unit_34 : decode cX7_unit 34 = .ok (.invokestatic 40, 3) := dk_184 0 40 (dk_at dksX7_unit_1 10 rfl rfl)
theorem dX7_unit_37 : decode cX7_unit 37 = .ok (.ifCond .ne 16, 3) := dk_154 0 16 (dk_at dksX7_unit_1 13 rfl rfl)
theorem dX7_unit_40 : decode cX7_unit 40 = .ok (.new 129, 3) := dk_187 0 129 (dk_at dksX7_unit_1 16 rfl rfl)
theorem dX7_unit_43 : decode cX7_unit 43 = .ok (.dup, 1) := dk_89 (dk_at dksX7_unit_1 19 rfl rfl)
theorem dX7_unit_44 : decode cX7_unit 44 = .ok (.iconst 1, 1) := dk_4 (dk_at dksX7_unit_1 20 rfl rfl)
theorem dX7_unit_45 : decode cX7_unit 45 = .ok (.aload_n 0, 1) := dk_42 (dk_at dksX7_unit_1 21 rfl rfl)
theorem dX7_unit_46 : decode cX7_unit 46 = .ok (.getfield 44, 3) := dk_180 0 44 (dk_at dksX7_unit_2 0 rfl rfl)
theorem dX7_unit_49 : decode cX7_unit 49 = .ok (.invokespecial 131, 3) := dk_183 0 131 (dk_at dksX7_unit_2 3 rfl rfl)
theorem dX7_unit_52 : decode cX7_unit 52 = .ok (.athrow, 1) := dk_191 (dk_at dksX7_unit_2 6 rfl rfl)
theorem dX7_unit_53 : decode cX7_unit 53 = .ok (.aload_n 0, 1) := dk_42 (dk_at dksX7_unit_2 7 rfl rfl)
theorem dX7_unit_54 : decode cX7_unit 54 = .ok (.getfield 126, 3) := dk_180 0 126 (dk_at dksX7_unit_2 8 rfl rfl)
theorem dX7_unit_57 : decode cX7_unit 57 = .ok (.sipush 180, 3) := dk_17 0 180 (dk_at dksX7_unit_2 11 rfl rfl)
theorem dX7_unit_60 : decode cX7_unit 60 = .ok (.isub, 1) := dk_100 (dk_at dksX7_unit_2 14 rfl rfl)
theorem dX7_unit_61 : decode cX7_unit 61 = .ok (.istore_n 1, 1) := dk_60 (dk_at dksX7_unit_2 15 rfl rfl)
theorem dX7_unit_62 : decode cX7_unit 62 = .ok (.aload_n 0, 1) := dk_42 (dk_at dksX7_unit_2 16 rfl rfl)
theorem dX7_unit_63 : decode cX7_unit 63 = .ok (.invokevirtual 137, 3) := dk_182 0 137 (dk_at dksX7_unit_2 17 rfl rfl)
theorem dX7_unit_66 : decode cX7_unit 66 = .ok (.new 186, 3) := dk_187 0 186 (dk_at dksX7_unit_2 20 rfl rfl)
theorem dX7_unit_69 : decode cX7_unit 69 = .ok (.dup, 1) := dk_89 (dk_at dksX7_unit_2 23 rfl rfl)
theorem dX7_unit_70 : decode cX7_unit 70 = .ok (.iload_n 1, 1) := dk_27 (dk_at dksX7_unit_3 0 rfl rfl)
theorem dX7_unit_71 : decode cX7_unit 71 = .ok (.invokespecial 188, 3) := dk_183 0 188 (dk_at dksX7_unit_3 1 rfl rfl)
theorem dX7_unit_74 : decode cX7_unit 74 = .ok (.areturn, 1) := dk_176 (dk_at dksX7_unit_3 4 rfl rfl)
abbrev cX7_number : ByteArray := prog_13_method_10_code
def yX7_number : MethodName := ⟨RX7, "number", "(II)I"⟩
def dkwX7_number_2 : List UInt8 := [42, 180, 0, 134, 62, 42, 182, 0, 137, 29, 172]
abbrev dktX7_number_2 : List UInt8 := dkwX7_number_2 ++ []
def dkwX7_number_1 : List UInt8 := [180, 0, 134, 27, 28, 184, 0, 40, 154, 0, 16, 187, 0, 129, 89, 5, 42, 180, 0, 44, 183, 0, 131, 191]
abbrev dktX7_number_1 : List UInt8 := dkwX7_number_1 ++ dktX7_number_2
def dkwX7_number_0 : List UInt8 := [42, 180, 0, 126, 5, 159, 0, 16, 187, 0, 129, 89, 4, 42, 180, 0, 44, 183, 0, 131, 191, 42]
abbrev dktX7_number_0 : List UInt8 := dkwX7_number_0 ++ dktX7_number_1
theorem dksX7_number_0 : cX7_number.data.toList.drop 0 = dktX7_number_0 := by decide +kernel
theorem dksX7_number_1 : cX7_number.data.toList.drop 22 = dktX7_number_1 := dk_seg dksX7_number_0 22 rfl rfl
theorem dksX7_number_2 : cX7_number.data.toList.drop 46 = dktX7_number_2 := dk_seg dksX7_number_1 24 rfl rfl
theorem dX7_number_0 : decode cX7_number 0 = .ok (.aload_n 0, 1) := dk_42 (dk_at dksX7_number_0 0 rfl rfl)
theorem dX7_number_1 : decode cX7_number 1 = .ok (.getfield 126, 3) := dk_180 0 126 (dk_at dksX7_number_0 1 rfl rfl)
theorem dX7_number_4 : decode cX7_number 4 = .ok (.iconst 2, 1) := dk_5 (dk_at dksX7_number_0 4 rfl rfl)
theorem dX7_number_5 : decode cX7_number 5 = .ok (.if_icmp .eq 16, 3) := dk_159 0 16 (dk_at dksX7_number_0 5 rfl rfl)
theorem dX7_number_8 : decode cX7_number 8 = .ok (.new 129, 3) := dk_187 0 129 (dk_at dksX7_number_0 8 rfl rfl)
theorem dX7_number_11 : decode cX7_number 11 = .ok (.dup, 1) := dk_89 (dk_at dksX7_number_0 11 rfl rfl)
theorem dX7_number_12 : decode cX7_number 12 = .ok (.iconst 1, 1) := dk_4 (dk_at dksX7_number_0 12 rfl rfl)
theorem dX7_number_13 : decode cX7_number 13 = .ok (.aload_n 0, 1) := dk_42 (dk_at dksX7_number_0 13 rfl rfl)
theorem dX7_number_14 : decode cX7_number 14 = .ok (.getfield 44, 3) := dk_180 0 44 (dk_at dksX7_number_0 14 rfl rfl)
theorem dX7_number_17 : decode cX7_number 17 = .ok (.invokespecial 131, 3) := dk_183 0 131 (dk_at dksX7_number_0 17 rfl rfl)
theorem dX7_number_20 : decode cX7_number 20 = .ok (.athrow, 1) := dk_191 (dk_at dksX7_number_0 20 rfl rfl)
theorem dX7_number_21 : decode cX7_number 21 = .ok (.aload_n 0, 1) := dk_42 (dk_at dksX7_number_0 21 rfl rfl)
theorem dX7_number_22 : decode cX7_number 22 = .ok (.getfield 134, 3) := dk_180 0 134 (dk_at dksX7_number_1 0 rfl rfl)
theorem dX7_number_25 : decode cX7_number 25 = .ok (.iload_n 1, 1) := dk_27 (dk_at dksX7_number_1 3 rfl rfl)
theorem dX7_number_26 : decode cX7_number 26 = .ok (.iload_n 2, 1) := dk_28 (dk_at dksX7_number_1 4 rfl rfl)
theorem dX7_number_27 : decode cX7_number 27 = .ok (.invokestatic 40, 3) := dk_184 0 40 (dk_at dksX7_number_1 5 rfl rfl)
theorem dX7_number_30 : decode cX7_number 30 = .ok (.ifCond .ne 16, 3) := dk_154 0 16 (dk_at dksX7_number_1 8 rfl rfl)
theorem dX7_number_33 : decode cX7_number 33 = .ok (.new 129, 3) := dk_187 0 129 (dk_at dksX7_number_1 11 rfl rfl)
theorem dX7_number_36 : decode cX7_number 36 = .ok (.dup, 1) := dk_89 (dk_at dksX7_number_1 14 rfl rfl)
theorem dX7_number_37 : decode cX7_number 37 = .ok (.iconst 2, 1) := dk_5 (dk_at dksX7_number_1 15 rfl rfl)
theorem dX7_number_38 : decode cX7_number 38 = .ok (.aload_n 0, 1) := dk_42 (dk_at dksX7_number_1 16 rfl rfl)
theorem dX7_number_39 : decode cX7_number 39 = .ok (.getfield 44, 3) := dk_180 0 44 (dk_at dksX7_number_1 17 rfl rfl)
theorem dX7_number_42 : decode cX7_number 42 = .ok (.invokespecial 131, 3) := dk_183 0 131 (dk_at dksX7_number_1 20 rfl rfl)
theorem dX7_number_45 : decode cX7_number 45 = .ok (.athrow, 1) := dk_191 (dk_at dksX7_number_1 23 rfl rfl)
theorem dX7_number_46 : decode cX7_number 46 = .ok (.aload_n 0, 1) := dk_42 (dk_at dksX7_number_2 0 rfl rfl)
theorem dX7_number_47 : decode cX7_number 47 = .ok (.getfield 134, 3) := dk_180 0 134 (dk_at dksX7_number_2 1 rfl rfl)
theorem dX7_number_50 : decode cX7_number 50 = .ok (.istore_n 3, 1) := dk_62 (dk_at dksX7_number_2 4 rfl rfl)
theorem dX7_number_51 : decode cX7_number 51 = .ok (.aload_n 0, 1) := dk_42 (dk_at dksX7_number_2 5 rfl rfl)
theorem dX7_number_52 : decode cX7_number 52 = .ok (.invokevirtual 137, 3) := dk_182 0 137 (dk_at dksX7_number_2 6 rfl rfl)
theorem dX7_number_55 : decode cX7_number 55 = .ok (.iload_n 3, 1) := dk_29 (dk_at dksX7_number_2 9 rfl rfl)
theorem dX7_number_56 : decode cX7_number 56 = .ok (.ireturn, 1) := dk_172 (dk_at dksX7_number_2 10 rfl rfl)
abbrev cX7_any : ByteArray := prog_13_method_19_code
def yX7_any : MethodName := ⟨RX7, "any", "()LKindPostman$Term;"⟩
def dkwX7_any_1 : List UInt8 := [182, 0, 189, 183, 0, 175, 76, 167, 255, 230, 43, 176]
abbrev dktX7_any_1 : List UInt8 := dkwX7_any_1 ++ []
def dkwX7_any_0 : List UInt8 := [42, 182, 0, 189, 76, 42, 180, 0, 126, 7, 160, 0, 24, 42, 182, 0, 137, 187, 0, 173, 89, 43, 7, 42]
abbrev dktX7_any_0 : List UInt8 := dkwX7_any_0 ++ dktX7_any_1
theorem dksX7_any_0 : cX7_any.data.toList.drop 0 = dktX7_any_0 := by decide +kernel
theorem dksX7_any_1 : cX7_any.data.toList.drop 24 = dktX7_any_1 := dk_seg dksX7_any_0 24 rfl rfl
theorem dX7_any_0 : decode cX7_any 0 = .ok (.aload_n 0, 1) := dk_42 (dk_at dksX7_any_0 0 rfl rfl)
theorem dX7_any_1 : decode cX7_any 1 = .ok (.invokevirtual 189, 3) := dk_182 0 189 (dk_at dksX7_any_0 1 rfl rfl)
theorem dX7_any_4 : decode cX7_any 4 = .ok (.astore_n 1, 1) := dk_76 (dk_at dksX7_any_0 4 rfl rfl)
theorem dX7_any_5 : decode cX7_any 5 = .ok (.aload_n 0, 1) := dk_42 (dk_at dksX7_any_0 5 rfl rfl)
theorem dX7_any_6 : decode cX7_any 6 = .ok (.getfield 126, 3) := dk_180 0 126 (dk_at dksX7_any_0 6 rfl rfl)
theorem dX7_any_9 : decode cX7_any 9 = .ok (.iconst 4, 1) := dk_7 (dk_at dksX7_any_0 9 rfl rfl)
theorem dX7_any_10 : decode cX7_any 10 = .ok (.if_icmp .ne 24, 3) := dk_160 0 24 (dk_at dksX7_any_0 10 rfl rfl)
theorem dX7_any_13 : decode cX7_any 13 = .ok (.aload_n 0, 1) := dk_42 (dk_at dksX7_any_0 13 rfl rfl)
theorem dX7_any_14 : decode cX7_any 14 = .ok (.invokevirtual 137, 3) := dk_182 0 137 (dk_at dksX7_any_0 14 rfl rfl)
theorem dX7_any_17 : decode cX7_any 17 = .ok (.new 173, 3) := dk_187 0 173 (dk_at dksX7_any_0 17 rfl rfl)
theorem dX7_any_20 : decode cX7_any 20 = .ok (.dup, 1) := dk_89 (dk_at dksX7_any_0 20 rfl rfl)
theorem dX7_any_21 : decode cX7_any 21 = .ok (.aload_n 1, 1) := dk_43 (dk_at dksX7_any_0 21 rfl rfl)
theorem dX7_any_22 : decode cX7_any 22 = .ok (.iconst 4, 1) := dk_7 (dk_at dksX7_any_0 22 rfl rfl)
theorem dX7_any_23 : decode cX7_any 23 = .ok (.aload_n 0, 1) := dk_42 (dk_at dksX7_any_0 23 rfl rfl)
theorem dX7_any_24 : decode cX7_any 24 = .ok (.invokevirtual 189, 3) := dk_182 0 189 (dk_at dksX7_any_1 0 rfl rfl)
theorem dX7_any_27 : decode cX7_any 27 = .ok (.invokespecial 175, 3) := dk_183 0 175 (dk_at dksX7_any_1 3 rfl rfl)
theorem dX7_any_30 : decode cX7_any 30 = .ok (.astore_n 1, 1) := dk_76 (dk_at dksX7_any_1 6 rfl rfl)
theorem dX7_any_31 : decode cX7_any 31 = .ok (.goto (-26), 3) := dk_167 255 230 (dk_at dksX7_any_1 7 rfl rfl)
theorem dX7_any_34 : decode cX7_any 34 = .ok (.aload_n 1, 1) := dk_43 (dk_at dksX7_any_1 10 rfl rfl)
theorem dX7_any_35 : decode cX7_any 35 = .ok (.areturn, 1) := dk_176 (dk_at dksX7_any_1 11 rfl rfl)
abbrev cX7_all : ByteArray := prog_13_method_20_code
def yX7_all : MethodName := ⟨RX7, "all", "()LKindPostman$Term;"⟩
def dkwX7_all_1 : List UInt8 := [182, 0, 192, 183, 0, 175, 76, 167, 255, 230, 43, 176]
abbrev dktX7_all_1 : List UInt8 := dkwX7_all_1 ++ []
def dkwX7_all_0 : List UInt8 := [42, 182, 0, 192, 76, 42, 180, 0, 126, 8, 160, 0, 24, 42, 182, 0, 137, 187, 0, 173, 89, 43, 8, 42]
abbrev dktX7_all_0 : List UInt8 := dkwX7_all_0 ++ dktX7_all_1
theorem dksX7_all_0 : cX7_all.data.toList.drop 0 = dktX7_all_0 := by decide +kernel
theorem dksX7_all_1 : cX7_all.data.toList.drop 24 = dktX7_all_1 := dk_seg dksX7_all_0 24 rfl rfl
theorem dX7_all_0 : decode cX7_all 0 = .ok (.aload_n 0, 1) := dk_42 (dk_at dksX7_all_0 0 rfl rfl)
theorem dX7_all_1 : decode cX7_all 1 = .ok (.invokevirtual 192, 3) := dk_182 0 192 (dk_at dksX7_all_0 1 rfl rfl)
theorem dX7_all_4 : decode cX7_all 4 = .ok (.astore_n 1, 1) := dk_76 (dk_at dksX7_all_0 4 rfl rfl)
theorem dX7_all_5 : decode cX7_all 5 = .ok (.aload_n 0, 1) := dk_42 (dk_at dksX7_all_0 5 rfl rfl)
theorem dX7_all_6 : decode cX7_all 6 = .ok (.getfield 126, 3) := dk_180 0 126 (dk_at dksX7_all_0 6 rfl rfl)
theorem dX7_all_9 : decode cX7_all 9 = .ok (.iconst 5, 1) := dk_8 (dk_at dksX7_all_0 9 rfl rfl)
theorem dX7_all_10 : decode cX7_all 10 = .ok (.if_icmp .ne 24, 3) := dk_160 0 24 (dk_at dksX7_all_0 10 rfl rfl)
theorem dX7_all_13 : decode cX7_all 13 = .ok (.aload_n 0, 1) := dk_42 (dk_at dksX7_all_0 13 rfl rfl)
theorem dX7_all_14 : decode cX7_all 14 = .ok (.invokevirtual 137, 3) := dk_182 0 137 (dk_at dksX7_all_0 14 rfl rfl)
theorem dX7_all_17 : decode cX7_all 17 = .ok (.new 173, 3) := dk_187 0 173 (dk_at dksX7_all_0 17 rfl rfl)
theorem dX7_all_20 : decode cX7_all 20 = .ok (.dup, 1) := dk_89 (dk_at dksX7_all_0 20 rfl rfl)
theorem dX7_all_21 : decode cX7_all 21 = .ok (.aload_n 1, 1) := dk_43 (dk_at dksX7_all_0 21 rfl rfl)
theorem dX7_all_22 : decode cX7_all 22 = .ok (.iconst 5, 1) := dk_8 (dk_at dksX7_all_0 22 rfl rfl)
theorem dX7_all_23 : decode cX7_all 23 = .ok (.aload_n 0, 1) := dk_42 (dk_at dksX7_all_0 23 rfl rfl)
theorem dX7_all_24 : decode cX7_all 24 = .ok (.invokevirtual 192, 3) := dk_182 0 192 (dk_at dksX7_all_1 0 rfl rfl)
theorem dX7_all_27 : decode cX7_all 27 = .ok (.invokespecial 175, 3) := dk_183 0 175 (dk_at dksX7_all_1 3 rfl rfl)
theorem dX7_all_30 : decode cX7_all 30 = .ok (.astore_n 1, 1) := dk_76 (dk_at dksX7_all_1 6 rfl rfl)
theorem dX7_all_31 : decode cX7_all 31 = .ok (.goto (-26), 3) := dk_167 255 230 (dk_at dksX7_all_1 7 rfl rfl)
theorem dX7_all_34 : decode cX7_all 34 = .ok (.aload_n 1, 1) := dk_43 (dk_at dksX7_all_1 10 rfl rfl)
theorem dX7_all_35 : decode cX7_all 35 = .ok (.areturn, 1) := dk_176 (dk_at dksX7_all_1 11 rfl rfl)
abbrev cX7_one : ByteArray := prog_13_method_21_code
def yX7_one : MethodName := ⟨RX7, "one", "()LKindPostman$Term;"⟩
def dkwX7_one_6 : List UInt8 := [176]
abbrev dktX7_one_6 : List UInt8 := dkwX7_one_6 ++ []
def dkwX7_one_5 : List UInt8 := [180, 0, 44, 183, 0, 131, 191, 42, 182, 0, 137, 187, 0, 173, 89, 43, 28, 42, 182, 0, 208, 183, 0, 175]
abbrev dktX7_one_5 : List UInt8 := dkwX7_one_5 ++ dktX7_one_6
def dkwX7_one_4 : List UInt8 := [16, 60, 159, 0, 28, 28, 16, 61, 159, 0, 22, 28, 16, 62, 159, 0, 16, 187, 0, 129, 89, 4, 42]
abbrev dktX7_one_4 : List UInt8 := dkwX7_one_4 ++ dktX7_one_5
def dkwX7_one_3 : List UInt8 := [42, 89, 180, 0, 166, 4, 100, 181, 0, 166, 44, 176, 42, 182, 0, 208, 76, 42, 180, 0, 126, 61, 28]
abbrev dktX7_one_3 : List UInt8 := dkwX7_one_3 ++ dktX7_one_4
def dkwX7_one_2 : List UInt8 := [182, 0, 192, 183, 0, 199, 167, 0, 7, 42, 182, 0, 202, 77, 27, 154, 0, 9, 42, 16, 41, 182, 0, 205]
abbrev dktX7_one_2 : List UInt8 := dkwX7_one_2 ++ dktX7_one_3
def dkwX7_one_1 : List UInt8 := [160, 0, 7, 4, 167, 0, 4, 3, 60, 42, 182, 0, 195, 27, 153, 0, 17, 187, 0, 197, 89, 42]
abbrev dktX7_one_1 : List UInt8 := dkwX7_one_1 ++ dktX7_one_2
def dkwX7_one_0 : List UInt8 := [42, 180, 0, 126, 16, 6, 159, 0, 12, 42, 180, 0, 126, 16, 40, 160, 0, 67, 42, 180, 0, 126, 16, 6]
abbrev dktX7_one_0 : List UInt8 := dkwX7_one_0 ++ dktX7_one_1
theorem dksX7_one_0 : cX7_one.data.toList.drop 0 = dktX7_one_0 := by decide +kernel
theorem dksX7_one_1 : cX7_one.data.toList.drop 24 = dktX7_one_1 := dk_seg dksX7_one_0 24 rfl rfl
theorem dksX7_one_2 : cX7_one.data.toList.drop 46 = dktX7_one_2 := dk_seg dksX7_one_1 22 rfl rfl
theorem dksX7_one_3 : cX7_one.data.toList.drop 70 = dktX7_one_3 := dk_seg dksX7_one_2 24 rfl rfl
theorem dksX7_one_4 : cX7_one.data.toList.drop 93 = dktX7_one_4 := dk_seg dksX7_one_3 23 rfl rfl
theorem dksX7_one_5 : cX7_one.data.toList.drop 116 = dktX7_one_5 := dk_seg dksX7_one_4 23 rfl rfl
theorem dksX7_one_6 : cX7_one.data.toList.drop 140 = dktX7_one_6 := dk_seg dksX7_one_5 24 rfl rfl
theorem dX7_one_0 : decode cX7_one 0 = .ok (.aload_n 0, 1) := dk_42 (dk_at dksX7_one_0 0 rfl rfl)
theorem dX7_one_1 : decode cX7_one 1 = .ok (.getfield 126, 3) := dk_180 0 126 (dk_at dksX7_one_0 1 rfl rfl)
theorem dX7_one_4 : decode cX7_one 4 = .ok (.bipush 6, 2) := dk_16 6 (dk_at dksX7_one_0 4 rfl rfl)
theorem dX7_one_6 : decode cX7_one 6 = .ok (.if_icmp .eq 12, 3) := dk_159 0 12 (dk_at dksX7_one_0 6 rfl rfl)
theorem dX7_one_9 : decode cX7_one 9 = .ok (.aload_n 0, 1) := dk_42 (dk_at dksX7_one_0 9 rfl rfl)
theorem dX7_one_10 : decode cX7_one 10 = .ok (.getfield 126, 3) := dk_180 0 126 (dk_at dksX7_one_0 10 rfl rfl)
theorem dX7_one_13 : decode cX7_one 13 = .ok (.bipush 40, 2) := dk_16 40 (dk_at dksX7_one_0 13 rfl rfl)
theorem dX7_one_15 : decode cX7_one 15 = .ok (.if_icmp .ne 67, 3) := dk_160 0 67 (dk_at dksX7_one_0 15 rfl rfl)
theorem dX7_one_18 : decode cX7_one 18 = .ok (.aload_n 0, 1) := dk_42 (dk_at dksX7_one_0 18 rfl rfl)
theorem dX7_one_19 : decode cX7_one 19 = .ok (.getfield 126, 3) := dk_180 0 126 (dk_at dksX7_one_0 19 rfl rfl)
theorem dX7_one_22 : decode cX7_one 22 = .ok (.bipush 6, 2) := dk_16 6 (dk_at dksX7_one_0 22 rfl rfl)
theorem dX7_one_24 : decode cX7_one 24 = .ok (.if_icmp .ne 7, 3) := dk_160 0 7 (dk_at dksX7_one_1 0 rfl rfl)
theorem dX7_one_27 : decode cX7_one 27 = .ok (.iconst 1, 1) := dk_4 (dk_at dksX7_one_1 3 rfl rfl)
theorem dX7_one_28 : decode cX7_one 28 = .ok (.goto 4, 3) := dk_167 0 4 (dk_at dksX7_one_1 4 rfl rfl)
theorem dX7_one_31 : decode cX7_one 31 = .ok (.iconst 0, 1) := dk_3 (dk_at dksX7_one_1 7 rfl rfl)
theorem dX7_one_32 : decode cX7_one 32 = .ok (.istore_n 1, 1) := dk_60 (dk_at dksX7_one_1 8 rfl rfl)
theorem dX7_one_33 : decode cX7_one 33 = .ok (.aload_n 0, 1) := dk_42 (dk_at dksX7_one_1 9 rfl rfl)
theorem dX7_one_34 : decode cX7_one 34 = .ok (.invokevirtual 195, 3) := dk_182 0 195 (dk_at dksX7_one_1 10 rfl rfl)
theorem dX7_one_37 : decode cX7_one 37 = .ok (.iload_n 1, 1) := dk_27 (dk_at dksX7_one_1 13 rfl rfl)
theorem dX7_one_38 : decode cX7_one 38 = .ok (.ifCond .eq 17, 3) := dk_153 0 17 (dk_at dksX7_one_1 14 rfl rfl)
theorem dX7_one_41 : decode cX7_one 41 = .ok (.new 197, 3) := dk_187 0 197 (dk_at dksX7_one_1 17 rfl rfl)
theorem dX7_one_44 : decode cX7_one 44 = .ok (.dup, 1) := dk_89 (dk_at dksX7_one_1 20 rfl rfl)
theorem dX7_one_45 : decode cX7_one 45 = .ok (.aload_n 0, 1) := dk_42 (dk_at dksX7_one_1 21 rfl rfl)
theorem dX7_one_46 : decode cX7_one 46 = .ok (.invokevirtual 192, 3) := dk_182 0 192 (dk_at dksX7_one_2 0 rfl rfl)
theorem dX7_one_49 : decode cX7_one 49 = .ok (.invokespecial 199, 3) := dk_183 0 199 (dk_at dksX7_one_2 3 rfl rfl)
theorem dX7_one_52 : decode cX7_one 52 = .ok (.goto 7, 3) := dk_167 0 7 (dk_at dksX7_one_2 6 rfl rfl)
theorem dX7_one_55 : decode cX7_one 55 = .ok (.aload_n 0, 1) := dk_42 (dk_at dksX7_one_2 9 rfl rfl)
theorem dX7_one_56 : decode cX7_one 56 = .ok (.invokevirtual 202, 3) := dk_182 0 202 (dk_at dksX7_one_2 10 rfl rfl)
theorem dX7_one_59 : decode cX7_one 59 = .ok (.astore_n 2, 1) := dk_77 (dk_at dksX7_one_2 13 rfl rfl)
theorem dX7_one_60 : decode cX7_one 60 = .ok (.iload_n 1, 1) := dk_27 (dk_at dksX7_one_2 14 rfl rfl)
theorem dX7_one_61 : decode cX7_one 61 = .ok (.ifCond .ne 9, 3) := dk_154 0 9 (dk_at dksX7_one_2 15 rfl rfl)
theorem dX7_one_64 : decode cX7_one 64 = .ok (.aload_n 0, 1) := dk_42 (dk_at dksX7_one_2 18 rfl rfl)
theorem dX7_one_65 : decode cX7_one 65 = .ok (.bipush 41, 2) := dk_16 41 (dk_at dksX7_one_2 19 rfl rfl)
theorem dX7_one_67 : decode cX7_one 67 = .ok (.invokevirtual 205, 3) := dk_182 0 205 (dk_at dksX7_one_2 21 rfl rfl)
theorem dX7_one_70 : decode cX7_one 70 = .ok (.aload_n 0, 1) := dk_42 (dk_at dksX7_one_3 0 rfl rfl)
theorem dX7_one_71 : decode cX7_one 71 = .ok (.dup, 1) := dk_89 (dk_at dksX7_one_3 1 rfl rfl)
theorem dX7_one_72 : decode cX7_one 72 = .ok (.getfield 166, 3) := dk_180 0 166 (dk_at dksX7_one_3 2 rfl rfl)
theorem dX7_one_75 : decode cX7_one 75 = .ok (.iconst 1, 1) := dk_4 (dk_at dksX7_one_3 5 rfl rfl)
theorem dX7_one_76 : decode cX7_one 76 = .ok (.isub, 1) := dk_100 (dk_at dksX7_one_3 6 rfl rfl)
theorem dX7_one_77 : decode cX7_one 77 = .ok (.putfield 166, 3) := dk_181 0 166 (dk_at dksX7_one_3 7 rfl rfl)
theorem dX7_one_80 : decode cX7_one 80 = .ok (.aload_n 2, 1) := dk_44 (dk_at dksX7_one_3 10 rfl rfl)
theorem dX7_one_81 : decode cX7_one 81 = .ok (.areturn, 1) := dk_176 (dk_at dksX7_one_3 11 rfl rfl)
theorem dX7_one_82 : decode cX7_one 82 = .ok (.aload_n 0, 1) := dk_42 (dk_at dksX7_one_3 12 rfl rfl)
theorem dX7_one_83 : decode cX7_one 83 = .ok (.invokevirtual 208, 3) := dk_182 0 208 (dk_at dksX7_one_3 13 rfl rfl)
theorem dX7_one_86 : decode cX7_one 86 = .ok (.astore_n 1, 1) := dk_76 (dk_at dksX7_one_3 16 rfl rfl)
theorem dX7_one_87 : decode cX7_one 87 = .ok (.aload_n 0, 1) := dk_42 (dk_at dksX7_one_3 17 rfl rfl)
theorem dX7_one_88 : decode cX7_one 88 = .ok (.getfield 126, 3) := dk_180 0 126 (dk_at dksX7_one_3 18 rfl rfl)
theorem dX7_one_91 : decode cX7_one 91 = .ok (.istore_n 2, 1) := dk_61 (dk_at dksX7_one_3 21 rfl rfl)
theorem dX7_one_92 : decode cX7_one 92 = .ok (.iload_n 2, 1) := dk_28 (dk_at dksX7_one_3 22 rfl rfl)
theorem dX7_one_93 : decode cX7_one 93 = .ok (.bipush 60, 2) := dk_16 60 (dk_at dksX7_one_4 0 rfl rfl)
theorem dX7_one_95 : decode cX7_one 95 = .ok (.if_icmp .eq 28, 3) := dk_159 0 28 (dk_at dksX7_one_4 2 rfl rfl)
theorem dX7_one_98 : decode cX7_one 98 = .ok (.iload_n 2, 1) := dk_28 (dk_at dksX7_one_4 5 rfl rfl)
theorem dX7_one_99 : decode cX7_one 99 = .ok (.bipush 61, 2) := dk_16 61 (dk_at dksX7_one_4 6 rfl rfl)
theorem dX7_one_101 : decode cX7_one 101 = .ok (.if_icmp .eq 22, 3) := dk_159 0 22 (dk_at dksX7_one_4 8 rfl rfl)
theorem dX7_one_104 : decode cX7_one 104 = .ok (.iload_n 2, 1) := dk_28 (dk_at dksX7_one_4 11 rfl rfl)
theorem dX7_one_105 : decode cX7_one 105 = .ok (.bipush 62, 2) := dk_16 62 (dk_at dksX7_one_4 12 rfl rfl)
theorem dX7_one_107 : decode cX7_one 107 = .ok (.if_icmp .eq 16, 3) := dk_159 0 16 (dk_at dksX7_one_4 14 rfl rfl)
theorem dX7_one_110 : decode cX7_one 110 = .ok (.new 129, 3) := dk_187 0 129 (dk_at dksX7_one_4 17 rfl rfl)
theorem dX7_one_113 : decode cX7_one 113 = .ok (.dup, 1) := dk_89 (dk_at dksX7_one_4 20 rfl rfl)
theorem dX7_one_114 : decode cX7_one 114 = .ok (.iconst 1, 1) := dk_4 (dk_at dksX7_one_4 21 rfl rfl)
theorem dX7_one_115 : decode cX7_one 115 = .ok (.aload_n 0, 1) := dk_42 (dk_at dksX7_one_4 22 rfl rfl)
theorem dX7_one_116 : decode cX7_one 116 = .ok (.getfield 44, 3) := dk_180 0 44 (dk_at dksX7_one_5 0 rfl rfl)
theorem dX7_one_119 : decode cX7_one 119 = .ok (.invokespecial 131, 3) := dk_183 0 131 (dk_at dksX7_one_5 3 rfl rfl)
theorem dX7_one_122 : decode cX7_one 122 = .ok (.athrow, 1) := dk_191 (dk_at dksX7_one_5 6 rfl rfl)
theorem dX7_one_123 : decode cX7_one 123 = .ok (.aload_n 0, 1) := dk_42 (dk_at dksX7_one_5 7 rfl rfl)
theorem dX7_one_124 : decode cX7_one 124 = .ok (.invokevirtual 137, 3) := dk_182 0 137 (dk_at dksX7_one_5 8 rfl rfl)
theorem dX7_one_127 : decode cX7_one 127 = .ok (.new 173, 3) := dk_187 0 173 (dk_at dksX7_one_5 11 rfl rfl)
theorem dX7_one_130 : decode cX7_one 130 = .ok (.dup, 1) := dk_89 (dk_at dksX7_one_5 14 rfl rfl)
theorem dX7_one_131 : decode cX7_one 131 = .ok (.aload_n 1, 1) := dk_43 (dk_at dksX7_one_5 15 rfl rfl)
theorem dX7_one_132 : decode cX7_one 132 = .ok (.iload_n 2, 1) := dk_28 (dk_at dksX7_one_5 16 rfl rfl)
theorem dX7_one_133 : decode cX7_one 133 = .ok (.aload_n 0, 1) := dk_42 (dk_at dksX7_one_5 17 rfl rfl)
theorem dX7_one_134 : decode cX7_one 134 = .ok (.invokevirtual 208, 3) := dk_182 0 208 (dk_at dksX7_one_5 18 rfl rfl)
theorem dX7_one_137 : decode cX7_one 137 = .ok (.invokespecial 175, 3) := dk_183 0 175 (dk_at dksX7_one_5 21 rfl rfl)
theorem dX7_one_140 : decode cX7_one 140 = .ok (.areturn, 1) := dk_176 (dk_at dksX7_one_6 0 rfl rfl)
abbrev cX7_opens : ByteArray := prog_13_method_15_code
def yX7_opens : MethodName := ⟨RX7, "opens", "()V"⟩
def dkwX7_opens_1 : List UInt8 := [180, 0, 166, 4, 96, 181, 0, 166, 42, 182, 0, 137, 177]
abbrev dktX7_opens_1 : List UInt8 := dkwX7_opens_1 ++ []
def dkwX7_opens_0 : List UInt8 := [42, 180, 0, 166, 16, 8, 160, 0, 16, 187, 0, 129, 89, 6, 42, 180, 0, 44, 183, 0, 131, 191, 42, 89]
abbrev dktX7_opens_0 : List UInt8 := dkwX7_opens_0 ++ dktX7_opens_1
theorem dksX7_opens_0 : cX7_opens.data.toList.drop 0 = dktX7_opens_0 := by decide +kernel
theorem dksX7_opens_1 : cX7_opens.data.toList.drop 24 = dktX7_opens_1 := dk_seg dksX7_opens_0 24 rfl rfl
theorem dX7_opens_0 : decode cX7_opens 0 = .ok (.aload_n 0, 1) := dk_42 (dk_at dksX7_opens_0 0 rfl rfl)
theorem dX7_opens_1 : decode cX7_opens 1 = .ok (.getfield 166, 3) := dk_180 0 166 (dk_at dksX7_opens_0 1 rfl rfl)
theorem dX7_opens_4 : decode cX7_opens 4 = .ok (.bipush 8, 2) := dk_16 8 (dk_at dksX7_opens_0 4 rfl rfl)
theorem dX7_opens_6 : decode cX7_opens 6 = .ok (.if_icmp .ne 16, 3) := dk_160 0 16 (dk_at dksX7_opens_0 6 rfl rfl)
theorem dX7_opens_9 : decode cX7_opens 9 = .ok (.new 129, 3) := dk_187 0 129 (dk_at dksX7_opens_0 9 rfl rfl)
theorem dX7_opens_12 : decode cX7_opens 12 = .ok (.dup, 1) := dk_89 (dk_at dksX7_opens_0 12 rfl rfl)
theorem dX7_opens_13 : decode cX7_opens 13 = .ok (.iconst 3, 1) := dk_6 (dk_at dksX7_opens_0 13 rfl rfl)
theorem dX7_opens_14 : decode cX7_opens 14 = .ok (.aload_n 0, 1) := dk_42 (dk_at dksX7_opens_0 14 rfl rfl)
theorem dX7_opens_15 : decode cX7_opens 15 = .ok (.getfield 44, 3) := dk_180 0 44 (dk_at dksX7_opens_0 15 rfl rfl)
theorem dX7_opens_18 : decode cX7_opens 18 = .ok (.invokespecial 131, 3) := dk_183 0 131 (dk_at dksX7_opens_0 18 rfl rfl)
theorem dX7_opens_21 : decode cX7_opens 21 = .ok (.athrow, 1) := dk_191 (dk_at dksX7_opens_0 21 rfl rfl)
theorem dX7_opens_22 : decode cX7_opens 22 = .ok (.aload_n 0, 1) := dk_42 (dk_at dksX7_opens_0 22 rfl rfl)
theorem dX7_opens_23 : decode cX7_opens 23 = .ok (.dup, 1) := dk_89 (dk_at dksX7_opens_0 23 rfl rfl)
theorem dX7_opens_24 : decode cX7_opens 24 = .ok (.getfield 166, 3) := dk_180 0 166 (dk_at dksX7_opens_1 0 rfl rfl)
theorem dX7_opens_27 : decode cX7_opens 27 = .ok (.iconst 1, 1) := dk_4 (dk_at dksX7_opens_1 3 rfl rfl)
theorem dX7_opens_28 : decode cX7_opens 28 = .ok (.iadd, 1) := dk_96 (dk_at dksX7_opens_1 4 rfl rfl)
theorem dX7_opens_29 : decode cX7_opens 29 = .ok (.putfield 166, 3) := dk_181 0 166 (dk_at dksX7_opens_1 5 rfl rfl)
theorem dX7_opens_32 : decode cX7_opens 32 = .ok (.aload_n 0, 1) := dk_42 (dk_at dksX7_opens_1 8 rfl rfl)
theorem dX7_opens_33 : decode cX7_opens 33 = .ok (.invokevirtual 137, 3) := dk_182 0 137 (dk_at dksX7_opens_1 9 rfl rfl)
theorem dX7_opens_36 : decode cX7_opens 36 = .ok (.return_, 1) := dk_177 (dk_at dksX7_opens_1 12 rfl rfl)
abbrev cX7_must : ByteArray := prog_13_method_14_code
def yX7_must : MethodName := ⟨RX7, "must", "(I)V"⟩
def dkwX7_must_1 : List UInt8 := [182, 0, 137, 177]
abbrev dktX7_must_1 : List UInt8 := dkwX7_must_1 ++ []
def dkwX7_must_0 : List UInt8 := [42, 180, 0, 126, 27, 159, 0, 16, 187, 0, 129, 89, 4, 42, 180, 0, 44, 183, 0, 131, 191, 42]
abbrev dktX7_must_0 : List UInt8 := dkwX7_must_0 ++ dktX7_must_1
theorem dksX7_must_0 : cX7_must.data.toList.drop 0 = dktX7_must_0 := by decide +kernel
theorem dksX7_must_1 : cX7_must.data.toList.drop 22 = dktX7_must_1 := dk_seg dksX7_must_0 22 rfl rfl
theorem dX7_must_0 : decode cX7_must 0 = .ok (.aload_n 0, 1) := dk_42 (dk_at dksX7_must_0 0 rfl rfl)
theorem dX7_must_1 : decode cX7_must 1 = .ok (.getfield 126, 3) := dk_180 0 126 (dk_at dksX7_must_0 1 rfl rfl)
theorem dX7_must_4 : decode cX7_must 4 = .ok (.iload_n 1, 1) := dk_27 (dk_at dksX7_must_0 4 rfl rfl)
theorem dX7_must_5 : decode cX7_must 5 = .ok (.if_icmp .eq 16, 3) := dk_159 0 16 (dk_at dksX7_must_0 5 rfl rfl)
theorem dX7_must_8 : decode cX7_must 8 = .ok (.new 129, 3) := dk_187 0 129 (dk_at dksX7_must_0 8 rfl rfl)
theorem dX7_must_11 : decode cX7_must 11 = .ok (.dup, 1) := dk_89 (dk_at dksX7_must_0 11 rfl rfl)
theorem dX7_must_12 : decode cX7_must 12 = .ok (.iconst 1, 1) := dk_4 (dk_at dksX7_must_0 12 rfl rfl)
theorem dX7_must_13 : decode cX7_must 13 = .ok (.aload_n 0, 1) := dk_42 (dk_at dksX7_must_0 13 rfl rfl)
theorem dX7_must_14 : decode cX7_must 14 = .ok (.getfield 44, 3) := dk_180 0 44 (dk_at dksX7_must_0 14 rfl rfl)
theorem dX7_must_17 : decode cX7_must 17 = .ok (.invokespecial 131, 3) := dk_183 0 131 (dk_at dksX7_must_0 17 rfl rfl)
theorem dX7_must_20 : decode cX7_must 20 = .ok (.athrow, 1) := dk_191 (dk_at dksX7_must_0 20 rfl rfl)
theorem dX7_must_21 : decode cX7_must 21 = .ok (.aload_n 0, 1) := dk_42 (dk_at dksX7_must_0 21 rfl rfl)
theorem dX7_must_22 : decode cX7_must 22 = .ok (.invokevirtual 137, 3) := dk_182 0 137 (dk_at dksX7_must_1 0 rfl rfl)
theorem dX7_must_25 : decode cX7_must 25 = .ok (.return_, 1) := dk_177 (dk_at dksX7_must_1 3 rfl rfl)
abbrev cX7_post : ByteArray := prog_13_method_23_code
def yX7_post : MethodName := ⟨RX7, "post", "()Ljava/util/ArrayList;"⟩
def dkwX7_post_6 : List UInt8 := [183, 0, 231, 182, 0, 222, 87, 42, 16, 59, 182, 0, 205, 167, 255, 115, 43, 176]
abbrev dktX7_post_6 : List UInt8 := dkwX7_post_6 ++ []
def dkwX7_post_5 : List UInt8 := [183, 0, 131, 191, 42, 182, 0, 137, 43, 187, 0, 229, 89, 28, 29, 21, 4, 42, 4, 16, 99, 182, 0, 148]
abbrev dktX7_post_5 : List UInt8 := dkwX7_post_5 ++ dktX7_post_6
def dkwX7_post_4 : List UInt8 := [100, 54, 4, 21, 4, 3, 16, 6, 184, 0, 40, 154, 0, 16, 187, 0, 129, 89, 4, 42, 180, 0, 44]
abbrev dktX7_post_4 : List UInt8 := dkwX7_post_4 ++ dktX7_post_5
def dkwX7_post_3 : List UInt8 := [17, 3, 231, 182, 0, 148, 61, 42, 16, 11, 182, 0, 205, 42, 182, 0, 226, 62, 42, 180, 0, 126, 16, 20]
abbrev dktX7_post_3 : List UInt8 := dkwX7_post_3 ++ dktX7_post_4
def dkwX7_post_2 : List UInt8 := [160, 0, 16, 187, 0, 129, 89, 6, 42, 180, 0, 44, 183, 0, 131, 191, 42, 182, 0, 137, 42, 3]
abbrev dktX7_post_2 : List UInt8 := dkwX7_post_2 ++ dktX7_post_3
def dkwX7_post_1 : List UInt8 := [16, 10, 159, 0, 16, 187, 0, 129, 89, 4, 42, 180, 0, 44, 183, 0, 131, 191, 43, 182, 0, 214, 16, 16]
abbrev dktX7_post_1 : List UInt8 := dkwX7_post_1 ++ dktX7_post_2
def dkwX7_post_0 : List UInt8 := [187, 0, 211, 89, 183, 0, 213, 76, 42, 182, 0, 137, 42, 180, 0, 126, 153, 0, 140, 42, 180, 0, 126]
abbrev dktX7_post_0 : List UInt8 := dkwX7_post_0 ++ dktX7_post_1
theorem dksX7_post_0 : cX7_post.data.toList.drop 0 = dktX7_post_0 := by decide +kernel
theorem dksX7_post_1 : cX7_post.data.toList.drop 23 = dktX7_post_1 := dk_seg dksX7_post_0 23 rfl rfl
theorem dksX7_post_2 : cX7_post.data.toList.drop 47 = dktX7_post_2 := dk_seg dksX7_post_1 24 rfl rfl
theorem dksX7_post_3 : cX7_post.data.toList.drop 69 = dktX7_post_3 := dk_seg dksX7_post_2 22 rfl rfl
theorem dksX7_post_4 : cX7_post.data.toList.drop 93 = dktX7_post_4 := dk_seg dksX7_post_3 24 rfl rfl
theorem dksX7_post_5 : cX7_post.data.toList.drop 116 = dktX7_post_5 := dk_seg dksX7_post_4 23 rfl rfl
theorem dksX7_post_6 : cX7_post.data.toList.drop 140 = dktX7_post_6 := dk_seg dksX7_post_5 24 rfl rfl
theorem dX7_post_0 : decode cX7_post 0 = .ok (.new 211, 3) := dk_187 0 211 (dk_at dksX7_post_0 0 rfl rfl)
theorem dX7_post_3 : decode cX7_post 3 = .ok (.dup, 1) := dk_89 (dk_at dksX7_post_0 3 rfl rfl)
theorem dX7_post_4 : decode cX7_post 4 = .ok (.invokespecial 213, 3) := dk_183 0 213 (dk_at dksX7_post_0 4 rfl rfl)
theorem dX7_post_7 : decode cX7_post 7 = .ok (.astore_n 1, 1) := dk_76 (dk_at dksX7_post_0 7 rfl rfl)
theorem dX7_post_8 : decode cX7_post 8 = .ok (.aload_n 0, 1) := dk_42 (dk_at dksX7_post_0 8 rfl rfl)
theorem dX7_post_9 : decode cX7_post 9 = .ok (.invokevirtual 137, 3) := dk_182 0 137 (dk_at dksX7_post_0 9 rfl rfl)
theorem dX7_post_12 : decode cX7_post 12 = .ok (.aload_n 0, 1) := dk_42 (dk_at dksX7_post_0 12 rfl rfl)
theorem dX7_post_13 : decode cX7_post 13 = .ok (.getfield 126, 3) := dk_180 0 126 (dk_at dksX7_post_0 13 rfl rfl)
theorem dX7_post_16 : decode cX7_post 16 = .ok (.ifCond .eq 140, 3) := dk_153 0 140 (dk_at dksX7_post_0 16 rfl rfl)
theorem dX7_post_19 : decode cX7_post 19 = .ok (.aload_n 0, 1) := dk_42 (dk_at dksX7_post_0 19 rfl rfl)
theorem dX7_post_20 : decode cX7_post 20 = .ok (.getfield 126, 3) := dk_180 0 126 (dk_at dksX7_post_0 20 rfl rfl)
theorem dX7_post_23 : decode cX7_post 23 = .ok (.bipush 10, 2) := dk_16 10 (dk_at dksX7_post_1 0 rfl rfl)
theorem dX7_post_25 : decode cX7_post 25 = .ok (.if_icmp .eq 16, 3) := dk_159 0 16 (dk_at dksX7_post_1 2 rfl rfl)
theorem dX7_post_28 : decode cX7_post 28 = .ok (.new 129, 3) := dk_187 0 129 (dk_at dksX7_post_1 5 rfl rfl)
theorem dX7_post_31 : decode cX7_post 31 = .ok (.dup, 1) := dk_89 (dk_at dksX7_post_1 8 rfl rfl)
theorem dX7_post_32 : decode cX7_post 32 = .ok (.iconst 1, 1) := dk_4 (dk_at dksX7_post_1 9 rfl rfl)
theorem dX7_post_33 : decode cX7_post 33 = .ok (.aload_n 0, 1) := dk_42 (dk_at dksX7_post_1 10 rfl rfl)
theorem dX7_post_34 : decode cX7_post 34 = .ok (.getfield 44, 3) := dk_180 0 44 (dk_at dksX7_post_1 11 rfl rfl)
theorem dX7_post_37 : decode cX7_post 37 = .ok (.invokespecial 131, 3) := dk_183 0 131 (dk_at dksX7_post_1 14 rfl rfl)
theorem dX7_post_40 : decode cX7_post 40 = .ok (.athrow, 1) := dk_191 (dk_at dksX7_post_1 17 rfl rfl)
theorem dX7_post_41 : decode cX7_post 41 = .ok (.aload_n 1, 1) := dk_43 (dk_at dksX7_post_1 18 rfl rfl)
theorem dX7_post_42 : decode cX7_post 42 = .ok (.invokevirtual 214, 3) := dk_182 0 214 (dk_at dksX7_post_1 19 rfl rfl)
theorem dX7_post_45 : decode cX7_post 45 = .ok (.bipush 16, 2) := dk_16 16 (dk_at dksX7_post_1 22 rfl rfl)
theorem dX7_post_47 : decode cX7_post 47 = .ok (.if_icmp .ne 16, 3) := dk_160 0 16 (dk_at dksX7_post_2 0 rfl rfl)
theorem dX7_post_50 : decode cX7_post 50 = .ok (.new 129, 3) := dk_187 0 129 (dk_at dksX7_post_2 3 rfl rfl)
theorem dX7_post_53 : decode cX7_post 53 = .ok (.dup, 1) := dk_89 (dk_at dksX7_post_2 6 rfl rfl)
theorem dX7_post_54 : decode cX7_post 54 = .ok (.iconst 3, 1) := dk_6 (dk_at dksX7_post_2 7 rfl rfl)
theorem dX7_post_55 : decode cX7_post 55 = .ok (.aload_n 0, 1) := dk_42 (dk_at dksX7_post_2 8 rfl rfl)
theorem dX7_post_56 : decode cX7_post 56 = .ok (.getfield 44, 3) := dk_180 0 44 (dk_at dksX7_post_2 9 rfl rfl)
theorem dX7_post_59 : decode cX7_post 59 = .ok (.invokespecial 131, 3) := dk_183 0 131 (dk_at dksX7_post_2 12 rfl rfl)
theorem dX7_post_62 : decode cX7_post 62 = .ok (.athrow, 1) := dk_191 (dk_at dksX7_post_2 15 rfl rfl)
theorem dX7_post_63 : decode cX7_post 63 = .ok (.aload_n 0, 1) := dk_42 (dk_at dksX7_post_2 16 rfl rfl)
theorem dX7_post_64 : decode cX7_post 64 = .ok (.invokevirtual 137, 3) := dk_182 0 137 (dk_at dksX7_post_2 17 rfl rfl)
theorem dX7_post_67 : decode cX7_post 67 = .ok (.aload_n 0, 1) := dk_42 (dk_at dksX7_post_2 20 rfl rfl)
theorem dX7_post_68 : decode cX7_post 68 = .ok (.iconst 0, 1) := dk_3 (dk_at dksX7_post_2 21 rfl rfl)
theorem dX7_post_69 : decode cX7_post 69 = .ok (.sipush 999, 3) := dk_17 3 231 (dk_at dksX7_post_3 0 rfl rfl)
theorem dX7_post_72 : decode cX7_post 72 = .ok (.invokevirtual 148, 3) := dk_182 0 148 (dk_at dksX7_post_3 3 rfl rfl)
theorem dX7_post_75 : decode cX7_post 75 = .ok (.istore_n 2, 1) := dk_61 (dk_at dksX7_post_3 6 rfl rfl)
theorem dX7_post_76 : decode cX7_post 76 = .ok (.aload_n 0, 1) := dk_42 (dk_at dksX7_post_3 7 rfl rfl)
theorem dX7_post_77 : decode cX7_post 77 = .ok (.bipush 11, 2) := dk_16 11 (dk_at dksX7_post_3 8 rfl rfl)
theorem dX7_post_79 : decode cX7_post 79 = .ok (.invokevirtual 205, 3) := dk_182 0 205 (dk_at dksX7_post_3 10 rfl rfl)
theorem dX7_post_82 : decode cX7_post 82 = .ok (.aload_n 0, 1) := dk_42 (dk_at dksX7_post_3 13 rfl rfl)
theorem dX7_post_83 : decode cX7_post 83 = .ok (.invokevirtual 226, 3) := dk_182 0 226 (dk_at dksX7_post_3 14 rfl rfl)
theorem dX7_post_86 : decode cX7_post 86 = .ok (.istore_n 3, 1) := dk_62 (dk_at dksX7_post_3 17 rfl rfl)
theorem dX7_post_87 : decode cX7_post 87 = .ok (.aload_n 0, 1) := dk_42 (dk_at dksX7_post_3 18 rfl rfl)
theorem dX7_post_88 : decode cX7_post 88 = .ok (.getfield 126, 3) := dk_180 0 126 (dk_at dksX7_post_3 19 rfl rfl)
theorem dX7_post_91 : decode cX7_post 91 = .ok (.bipush 20, 2) := dk_16 20 (dk_at dksX7_post_3 22 rfl rfl)
theorem dX7_post_93 : decode cX7_post 93 = .ok (.isub, 1) := dk_100 (dk_at dksX7_post_4 0 rfl rfl)
theorem dX7_post_94 : decode cX7_post 94 = .ok (.istore 4, 2) := dk_54 4 (dk_at dksX7_post_4 1 rfl rfl)
theorem dX7_post_96 : decode cX7_post 96 = .ok (.iload 4, 2) := dk_21 4 (dk_at dksX7_post_4 3 rfl rfl)
theorem dX7_post_98 : decode cX7_post 98 = .ok (.iconst 0, 1) := dk_3 (dk_at dksX7_post_4 5 rfl rfl)
theorem dX7_post_99 : decode cX7_post 99 = .ok (.bipush 6, 2) := dk_16 6 (dk_at dksX7_post_4 6 rfl rfl)
theorem dX7_post_101 : decode cX7_post 101 = .ok (.invokestatic 40, 3) := dk_184 0 40 (dk_at dksX7_post_4 8 rfl rfl)
theorem dX7_post_104 : decode cX7_post 104 = .ok (.ifCond .ne 16, 3) := dk_154 0 16 (dk_at dksX7_post_4 11 rfl rfl)
theorem dX7_post_107 : decode cX7_post 107 = .ok (.new 129, 3) := dk_187 0 129 (dk_at dksX7_post_4 14 rfl rfl)
theorem dX7_post_110 : decode cX7_post 110 = .ok (.dup, 1) := dk_89 (dk_at dksX7_post_4 17 rfl rfl)
theorem dX7_post_111 : decode cX7_post 111 = .ok (.iconst 1, 1) := dk_4 (dk_at dksX7_post_4 18 rfl rfl)
theorem dX7_post_112 : decode cX7_post 112 = .ok (.aload_n 0, 1) := dk_42 (dk_at dksX7_post_4 19 rfl rfl)
theorem dX7_post_113 : decode cX7_post 113 = .ok (.getfield 44, 3) := dk_180 0 44 (dk_at dksX7_post_4 20 rfl rfl)
theorem dX7_post_116 : decode cX7_post 116 = .ok (.invokespecial 131, 3) := dk_183 0 131 (dk_at dksX7_post_5 0 rfl rfl)
theorem dX7_post_119 : decode cX7_post 119 = .ok (.athrow, 1) := dk_191 (dk_at dksX7_post_5 3 rfl rfl)
theorem dX7_post_120 : decode cX7_post 120 = .ok (.aload_n 0, 1) := dk_42 (dk_at dksX7_post_5 4 rfl rfl)
theorem dX7_post_121 : decode cX7_post 121 = .ok (.invokevirtual 137, 3) := dk_182 0 137 (dk_at dksX7_post_5 5 rfl rfl)
theorem dX7_post_124 : decode cX7_post 124 = .ok (.aload_n 1, 1) := dk_43 (dk_at dksX7_post_5 8 rfl rfl)
theorem dX7_post_125 : decode cX7_post 125 = .ok (.new 229, 3) := dk_187 0 229 (dk_at dksX7_post_5 9 rfl rfl)
theorem dX7_post_128 : decode cX7_post 128 = .ok (.dup, 1) := dk_89 (dk_at dksX7_post_5 12 rfl rfl)
theorem dX7_post_129 : decode cX7_post 129 = .ok (.iload_n 2, 1) := dk_28 (dk_at dksX7_post_5 13 rfl rfl)
theorem dX7_post_130 : decode cX7_post 130 = .ok (.iload_n 3, 1) := dk_29 (dk_at dksX7_post_5 14 rfl rfl)
theorem dX7_post_131 : decode cX7_post 131 = .ok (.iload 4, 2) := dk_21 4 (dk_at dksX7_post_5 15 rfl rfl)
theorem dX7_post_133 : decode cX7_post 133 = .ok (.aload_n 0, 1) := dk_42 (dk_at dksX7_post_5 17 rfl rfl)
theorem dX7_post_134 : decode cX7_post 134 = .ok (.iconst 1, 1) := dk_4 (dk_at dksX7_post_5 18 rfl rfl)
theorem dX7_post_135 : decode cX7_post 135 = .ok (.bipush 99, 2) := dk_16 99 (dk_at dksX7_post_5 19 rfl rfl)
theorem dX7_post_137 : decode cX7_post 137 = .ok (.invokevirtual 148, 3) := dk_182 0 148 (dk_at dksX7_post_5 21 rfl rfl)
theorem dX7_post_140 : decode cX7_post 140 = .ok (.invokespecial 231, 3) := dk_183 0 231 (dk_at dksX7_post_6 0 rfl rfl)
theorem dX7_post_143 : decode cX7_post 143 = .ok (.invokevirtual 222, 3) := dk_182 0 222 (dk_at dksX7_post_6 3 rfl rfl)
theorem dX7_post_146 : decode cX7_post 146 = .ok (.pop, 1) := dk_87 (dk_at dksX7_post_6 6 rfl rfl)
theorem dX7_post_147 : decode cX7_post 147 = .ok (.aload_n 0, 1) := dk_42 (dk_at dksX7_post_6 7 rfl rfl)
theorem dX7_post_148 : decode cX7_post 148 = .ok (.bipush 59, 2) := dk_16 59 (dk_at dksX7_post_6 8 rfl rfl)
theorem dX7_post_150 : decode cX7_post 150 = .ok (.invokevirtual 205, 3) := dk_182 0 205 (dk_at dksX7_post_6 10 rfl rfl)
theorem dX7_post_153 : decode cX7_post 153 = .ok (.goto (-141), 3) := dk_167 255 115 (dk_at dksX7_post_6 13 rfl rfl)
theorem dX7_post_156 : decode cX7_post 156 = .ok (.aload_n 1, 1) := dk_43 (dk_at dksX7_post_6 16 rfl rfl)
theorem dX7_post_157 : decode cX7_post 157 = .ok (.areturn, 1) := dk_176 (dk_at dksX7_post_6 17 rfl rfl)
abbrev cX7_door : ByteArray := prog_13_method_11_code
def yX7_door : MethodName := ⟨RX7, "door", "()I"⟩
def dkwX7_door_0 : List UInt8 := [42, 3, 42, 180, 0, 3, 180, 0, 140, 180, 0, 143, 4, 100, 182, 0, 148, 172]
abbrev dktX7_door_0 : List UInt8 := dkwX7_door_0 ++ []
theorem dksX7_door_0 : cX7_door.data.toList.drop 0 = dktX7_door_0 := by decide +kernel
theorem dX7_door_0 : decode cX7_door 0 = .ok (.aload_n 0, 1) := dk_42 (dk_at dksX7_door_0 0 rfl rfl)
theorem dX7_door_1 : decode cX7_door 1 = .ok (.iconst 0, 1) := dk_3 (dk_at dksX7_door_0 1 rfl rfl)
theorem dX7_door_2 : decode cX7_door 2 = .ok (.aload_n 0, 1) := dk_42 (dk_at dksX7_door_0 2 rfl rfl)
theorem dX7_door_3 : decode cX7_door 3 = .ok (.getfield 3, 3) := dk_180 0 3 (dk_at dksX7_door_0 3 rfl rfl)
theorem dX7_door_6 : decode cX7_door 6 = .ok (.getfield 140, 3) := dk_180 0 140 (dk_at dksX7_door_0 6 rfl rfl)
theorem dX7_door_9 : decode cX7_door 9 = .ok (.getfield 143, 3) := dk_180 0 143 (dk_at dksX7_door_0 9 rfl rfl)
theorem dX7_door_12 : decode cX7_door 12 = .ok (.iconst 1, 1) := dk_4 (dk_at dksX7_door_0 12 rfl rfl)
theorem dX7_door_13 : decode cX7_door 13 = .ok (.isub, 1) := dk_100 (dk_at dksX7_door_0 13 rfl rfl)
theorem dX7_door_14 : decode cX7_door 14 = .ok (.invokevirtual 148, 3) := dk_182 0 148 (dk_at dksX7_door_0 14 rfl rfl)
theorem dX7_door_17 : decode cX7_door 17 = .ok (.ireturn, 1) := dk_172 (dk_at dksX7_door_0 17 rfl rfl)
abbrev cX7_round : ByteArray := prog_13_method_24_code
def yX7_round : MethodName := ⟨RX7, "round", "()[I"⟩
def dkwX7_round_3 : List UInt8 := [42, 16, 59, 182, 0, 205, 42, 89, 180, 0, 234, 4, 96, 181, 0, 234, 167, 255, 172, 42, 180, 0, 15, 176]
abbrev dktX7_round_3 : List UInt8 := dkwX7_round_3 ++ []
def dkwX7_round_2 : List UInt8 := [180, 0, 44, 183, 0, 131, 191, 42, 182, 0, 137, 42, 180, 0, 15, 42, 180, 0, 234, 42, 182, 0, 226, 79]
abbrev dktX7_round_2 : List UInt8 := dkwX7_round_2 ++ dktX7_round_3
def dkwX7_round_1 : List UInt8 := [4, 42, 180, 0, 44, 183, 0, 131, 191, 42, 180, 0, 234, 16, 16, 160, 0, 16, 187, 0, 129, 89, 6, 42]
abbrev dktX7_round_1 : List UInt8 := dkwX7_round_1 ++ dktX7_round_2
def dkwX7_round_0 : List UInt8 := [42, 182, 0, 137, 42, 180, 0, 126, 153, 0, 83, 42, 180, 0, 126, 16, 12, 159, 0, 16, 187, 0, 129, 89]
abbrev dktX7_round_0 : List UInt8 := dkwX7_round_0 ++ dktX7_round_1
theorem dksX7_round_0 : cX7_round.data.toList.drop 0 = dktX7_round_0 := by decide +kernel
theorem dksX7_round_1 : cX7_round.data.toList.drop 24 = dktX7_round_1 := dk_seg dksX7_round_0 24 rfl rfl
theorem dksX7_round_2 : cX7_round.data.toList.drop 48 = dktX7_round_2 := dk_seg dksX7_round_1 24 rfl rfl
theorem dksX7_round_3 : cX7_round.data.toList.drop 72 = dktX7_round_3 := dk_seg dksX7_round_2 24 rfl rfl
theorem dX7_round_0 : decode cX7_round 0 = .ok (.aload_n 0, 1) := dk_42 (dk_at dksX7_round_0 0 rfl rfl)
theorem dX7_round_1 : decode cX7_round 1 = .ok (.invokevirtual 137, 3) := dk_182 0 137 (dk_at dksX7_round_0 1 rfl rfl)
theorem dX7_round_4 : decode cX7_round 4 = .ok (.aload_n 0, 1) := dk_42 (dk_at dksX7_round_0 4 rfl rfl)
theorem dX7_round_5 : decode cX7_round 5 = .ok (.getfield 126, 3) := dk_180 0 126 (dk_at dksX7_round_0 5 rfl rfl)
theorem dX7_round_8 : decode cX7_round 8 = .ok (.ifCond .eq 83, 3) := dk_153 0 83 (dk_at dksX7_round_0 8 rfl rfl)
theorem dX7_round_11 : decode cX7_round 11 = .ok (.aload_n 0, 1) := dk_42 (dk_at dksX7_round_0 11 rfl rfl)
theorem dX7_round_12 : decode cX7_round 12 = .ok (.getfield 126, 3) := dk_180 0 126 (dk_at dksX7_round_0 12 rfl rfl)
theorem dX7_round_15 : decode cX7_round 15 = .ok (.bipush 12, 2) := dk_16 12 (dk_at dksX7_round_0 15 rfl rfl)
theorem dX7_round_17 : decode cX7_round 17 = .ok (.if_icmp .eq 16, 3) := dk_159 0 16 (dk_at dksX7_round_0 17 rfl rfl)
theorem dX7_round_20 : decode cX7_round 20 = .ok (.new 129, 3) := dk_187 0 129 (dk_at dksX7_round_0 20 rfl rfl)
theorem dX7_round_23 : decode cX7_round 23 = .ok (.dup, 1) := dk_89 (dk_at dksX7_round_0 23 rfl rfl)
theorem dX7_round_24 : decode cX7_round 24 = .ok (.iconst 1, 1) := dk_4 (dk_at dksX7_round_1 0 rfl rfl)
theorem dX7_round_25 : decode cX7_round 25 = .ok (.aload_n 0, 1) := dk_42 (dk_at dksX7_round_1 1 rfl rfl)
theorem dX7_round_26 : decode cX7_round 26 = .ok (.getfield 44, 3) := dk_180 0 44 (dk_at dksX7_round_1 2 rfl rfl)
theorem dX7_round_29 : decode cX7_round 29 = .ok (.invokespecial 131, 3) := dk_183 0 131 (dk_at dksX7_round_1 5 rfl rfl)
theorem dX7_round_32 : decode cX7_round 32 = .ok (.athrow, 1) := dk_191 (dk_at dksX7_round_1 8 rfl rfl)
theorem dX7_round_33 : decode cX7_round 33 = .ok (.aload_n 0, 1) := dk_42 (dk_at dksX7_round_1 9 rfl rfl)
theorem dX7_round_34 : decode cX7_round 34 = .ok (.getfield 234, 3) := dk_180 0 234 (dk_at dksX7_round_1 10 rfl rfl)
theorem dX7_round_37 : decode cX7_round 37 = .ok (.bipush 16, 2) := dk_16 16 (dk_at dksX7_round_1 13 rfl rfl)
theorem dX7_round_39 : decode cX7_round 39 = .ok (.if_icmp .ne 16, 3) := dk_160 0 16 (dk_at dksX7_round_1 15 rfl rfl)
theorem dX7_round_42 : decode cX7_round 42 = .ok (.new 129, 3) := dk_187 0 129 (dk_at dksX7_round_1 18 rfl rfl)
theorem dX7_round_45 : decode cX7_round 45 = .ok (.dup, 1) := dk_89 (dk_at dksX7_round_1 21 rfl rfl)
theorem dX7_round_46 : decode cX7_round 46 = .ok (.iconst 3, 1) := dk_6 (dk_at dksX7_round_1 22 rfl rfl)
theorem dX7_round_47 : decode cX7_round 47 = .ok (.aload_n 0, 1) := dk_42 (dk_at dksX7_round_1 23 rfl rfl)
theorem dX7_round_48 : decode cX7_round 48 = .ok (.getfield 44, 3) := dk_180 0 44 (dk_at dksX7_round_2 0 rfl rfl)
theorem dX7_round_51 : decode cX7_round 51 = .ok (.invokespecial 131, 3) := dk_183 0 131 (dk_at dksX7_round_2 3 rfl rfl)
theorem dX7_round_54 : decode cX7_round 54 = .ok (.athrow, 1) := dk_191 (dk_at dksX7_round_2 6 rfl rfl)
theorem dX7_round_55 : decode cX7_round 55 = .ok (.aload_n 0, 1) := dk_42 (dk_at dksX7_round_2 7 rfl rfl)
theorem dX7_round_56 : decode cX7_round 56 = .ok (.invokevirtual 137, 3) := dk_182 0 137 (dk_at dksX7_round_2 8 rfl rfl)
theorem dX7_round_59 : decode cX7_round 59 = .ok (.aload_n 0, 1) := dk_42 (dk_at dksX7_round_2 11 rfl rfl)
theorem dX7_round_60 : decode cX7_round 60 = .ok (.getfield 15, 3) := dk_180 0 15 (dk_at dksX7_round_2 12 rfl rfl)
theorem dX7_round_63 : decode cX7_round 63 = .ok (.aload_n 0, 1) := dk_42 (dk_at dksX7_round_2 15 rfl rfl)
theorem dX7_round_64 : decode cX7_round 64 = .ok (.getfield 234, 3) := dk_180 0 234 (dk_at dksX7_round_2 16 rfl rfl)
theorem dX7_round_67 : decode cX7_round 67 = .ok (.aload_n 0, 1) := dk_42 (dk_at dksX7_round_2 19 rfl rfl)
theorem dX7_round_68 : decode cX7_round 68 = .ok (.invokevirtual 226, 3) := dk_182 0 226 (dk_at dksX7_round_2 20 rfl rfl)
theorem dX7_round_71 : decode cX7_round 71 = .ok (.iastore, 1) := dk_79 (dk_at dksX7_round_2 23 rfl rfl)
theorem dX7_round_72 : decode cX7_round 72 = .ok (.aload_n 0, 1) := dk_42 (dk_at dksX7_round_3 0 rfl rfl)
theorem dX7_round_73 : decode cX7_round 73 = .ok (.bipush 59, 2) := dk_16 59 (dk_at dksX7_round_3 1 rfl rfl)
theorem dX7_round_75 : decode cX7_round 75 = .ok (.invokevirtual 205, 3) := dk_182 0 205 (dk_at dksX7_round_3 3 rfl rfl)
theorem dX7_round_78 : decode cX7_round 78 = .ok (.aload_n 0, 1) := dk_42 (dk_at dksX7_round_3 6 rfl rfl)
theorem dX7_round_79 : decode cX7_round 79 = .ok (.dup, 1) := dk_89 (dk_at dksX7_round_3 7 rfl rfl)
theorem dX7_round_80 : decode cX7_round 80 = .ok (.getfield 234, 3) := dk_180 0 234 (dk_at dksX7_round_3 8 rfl rfl)
theorem dX7_round_83 : decode cX7_round 83 = .ok (.iconst 1, 1) := dk_4 (dk_at dksX7_round_3 11 rfl rfl)
theorem dX7_round_84 : decode cX7_round 84 = .ok (.iadd, 1) := dk_96 (dk_at dksX7_round_3 12 rfl rfl)
theorem dX7_round_85 : decode cX7_round 85 = .ok (.putfield 234, 3) := dk_181 0 234 (dk_at dksX7_round_3 13 rfl rfl)
theorem dX7_round_88 : decode cX7_round 88 = .ok (.goto (-84), 3) := dk_167 255 172 (dk_at dksX7_round_3 16 rfl rfl)
theorem dX7_round_91 : decode cX7_round 91 = .ok (.aload_n 0, 1) := dk_42 (dk_at dksX7_round_3 19 rfl rfl)
theorem dX7_round_92 : decode cX7_round 92 = .ok (.getfield 15, 3) := dk_180 0 15 (dk_at dksX7_round_3 20 rfl rfl)
theorem dX7_round_95 : decode cX7_round 95 = .ok (.areturn, 1) := dk_176 (dk_at dksX7_round_3 23 rfl rfl)
abbrev cX7_streets : ByteArray := prog_13_method_26_code
def yX7_streets : MethodName := ⟨RX7, "streets", "()[I"⟩
def dkwX7_streets_6 : List UInt8 := [180, 0, 19, 176]
abbrev dktX7_streets_6 : List UInt8 := dkwX7_streets_6 ++ []
def dkwX7_streets_5 : List UInt8 := [182, 0, 242, 42, 28, 27, 29, 182, 0, 242, 42, 89, 180, 0, 234, 4, 96, 181, 0, 234, 167, 255, 124, 42]
abbrev dktX7_streets_5 : List UInt8 := dkwX7_streets_5 ++ dktX7_streets_6
def dkwX7_streets_4 : List UInt8 := [182, 0, 226, 61, 42, 4, 16, 99, 182, 0, 148, 62, 42, 16, 59, 182, 0, 205, 42, 27, 28, 29]
abbrev dktX7_streets_4 : List UInt8 := dkwX7_streets_4 ++ dktX7_streets_5
def dkwX7_streets_3 : List UInt8 := [42, 180, 0, 134, 27, 160, 0, 16, 187, 0, 129, 89, 5, 42, 180, 0, 44, 183, 0, 131, 191, 42]
abbrev dktX7_streets_3 : List UInt8 := dkwX7_streets_3 ++ dktX7_streets_4
def dkwX7_streets_2 : List UInt8 := [180, 0, 44, 183, 0, 131, 191, 42, 182, 0, 137, 42, 182, 0, 226, 60, 42, 180, 0, 126, 5, 160, 0, 24]
abbrev dktX7_streets_2 : List UInt8 := dkwX7_streets_2 ++ dktX7_streets_3
def dkwX7_streets_1 : List UInt8 := [4, 42, 180, 0, 44, 183, 0, 131, 191, 42, 180, 0, 234, 16, 16, 160, 0, 16, 187, 0, 129, 89, 6, 42]
abbrev dktX7_streets_1 : List UInt8 := dkwX7_streets_1 ++ dktX7_streets_2
def dkwX7_streets_0 : List UInt8 := [42, 182, 0, 137, 42, 180, 0, 126, 153, 0, 131, 42, 180, 0, 126, 16, 13, 159, 0, 16, 187, 0, 129, 89]
abbrev dktX7_streets_0 : List UInt8 := dkwX7_streets_0 ++ dktX7_streets_1
theorem dksX7_streets_0 : cX7_streets.data.toList.drop 0 = dktX7_streets_0 := by decide +kernel
theorem dksX7_streets_1 : cX7_streets.data.toList.drop 24 = dktX7_streets_1 := dk_seg dksX7_streets_0 24 rfl rfl
theorem dksX7_streets_2 : cX7_streets.data.toList.drop 48 = dktX7_streets_2 := dk_seg dksX7_streets_1 24 rfl rfl
theorem dksX7_streets_3 : cX7_streets.data.toList.drop 72 = dktX7_streets_3 := dk_seg dksX7_streets_2 24 rfl rfl
theorem dksX7_streets_4 : cX7_streets.data.toList.drop 94 = dktX7_streets_4 := dk_seg dksX7_streets_3 22 rfl rfl
theorem dksX7_streets_5 : cX7_streets.data.toList.drop 116 = dktX7_streets_5 := dk_seg dksX7_streets_4 22 rfl rfl
theorem dksX7_streets_6 : cX7_streets.data.toList.drop 140 = dktX7_streets_6 := dk_seg dksX7_streets_5 24 rfl rfl
theorem dX7_streets_0 : decode cX7_streets 0 = .ok (.aload_n 0, 1) := dk_42 (dk_at dksX7_streets_0 0 rfl rfl)
theorem dX7_streets_1 : decode cX7_streets 1 = .ok (.invokevirtual 137, 3) := dk_182 0 137 (dk_at dksX7_streets_0 1 rfl rfl)
theorem dX7_streets_4 : decode cX7_streets 4 = .ok (.aload_n 0, 1) := dk_42 (dk_at dksX7_streets_0 4 rfl rfl)
theorem dX7_streets_5 : decode cX7_streets 5 = .ok (.getfield 126, 3) := dk_180 0 126 (dk_at dksX7_streets_0 5 rfl rfl)
theorem dX7_streets_8 : decode cX7_streets 8 = .ok (.ifCond .eq 131, 3) := dk_153 0 131 (dk_at dksX7_streets_0 8 rfl rfl)
theorem dX7_streets_11 : decode cX7_streets 11 = .ok (.aload_n 0, 1) := dk_42 (dk_at dksX7_streets_0 11 rfl rfl)
theorem dX7_streets_12 : decode cX7_streets 12 = .ok (.getfield 126, 3) := dk_180 0 126 (dk_at dksX7_streets_0 12 rfl rfl)
theorem dX7_streets_15 : decode cX7_streets 15 = .ok (.bipush 13, 2) := dk_16 13 (dk_at dksX7_streets_0 15 rfl rfl)
theorem dX7_streets_17 : decode cX7_streets 17 = .ok (.if_icmp .eq 16, 3) := dk_159 0 16 (dk_at dksX7_streets_0 17 rfl rfl)
theorem dX7_streets_20 : decode cX7_streets 20 = .ok (.new 129, 3) := dk_187 0 129 (dk_at dksX7_streets_0 20 rfl rfl)
theorem dX7_streets_23 : decode cX7_streets 23 = .ok (.dup, 1) := dk_89 (dk_at dksX7_streets_0 23 rfl rfl)
theorem dX7_streets_24 : decode cX7_streets 24 = .ok (.iconst 1, 1) := dk_4 (dk_at dksX7_streets_1 0 rfl rfl)
theorem dX7_streets_25 : decode cX7_streets 25 = .ok (.aload_n 0, 1) := dk_42 (dk_at dksX7_streets_1 1 rfl rfl)
theorem dX7_streets_26 : decode cX7_streets 26 = .ok (.getfield 44, 3) := dk_180 0 44 (dk_at dksX7_streets_1 2 rfl rfl)
theorem dX7_streets_29 : decode cX7_streets 29 = .ok (.invokespecial 131, 3) := dk_183 0 131 (dk_at dksX7_streets_1 5 rfl rfl)
theorem dX7_streets_32 : decode cX7_streets 32 = .ok (.athrow, 1) := dk_191 (dk_at dksX7_streets_1 8 rfl rfl)
theorem dX7_streets_33 : decode cX7_streets 33 = .ok (.aload_n 0, 1) := dk_42 (dk_at dksX7_streets_1 9 rfl rfl)
theorem dX7_streets_34 : decode cX7_streets 34 = .ok (.getfield 234, 3) := dk_180 0 234 (dk_at dksX7_streets_1 10 rfl rfl)
theorem dX7_streets_37 : decode cX7_streets 37 = .ok (.bipush 16, 2) := dk_16 16 (dk_at dksX7_streets_1 13 rfl rfl)
theorem dX7_streets_39 : decode cX7_streets 39 = .ok (.if_icmp .ne 16, 3) := dk_160 0 16 (dk_at dksX7_streets_1 15 rfl rfl)
theorem dX7_streets_42 : decode cX7_streets 42 = .ok (.new 129, 3) := dk_187 0 129 (dk_at dksX7_streets_1 18 rfl rfl)
theorem dX7_streets_45 : decode cX7_streets 45 = .ok (.dup, 1) := dk_89 (dk_at dksX7_streets_1 21 rfl rfl)
theorem dX7_streets_46 : decode cX7_streets 46 = .ok (.iconst 3, 1) := dk_6 (dk_at dksX7_streets_1 22 rfl rfl)
theorem dX7_streets_47 : decode cX7_streets 47 = .ok (.aload_n 0, 1) := dk_42 (dk_at dksX7_streets_1 23 rfl rfl)
theorem dX7_streets_48 : decode cX7_streets 48 = .ok (.getfield 44, 3) := dk_180 0 44 (dk_at dksX7_streets_2 0 rfl rfl)
theorem dX7_streets_51 : decode cX7_streets 51 = .ok (.invokespecial 131, 3) := dk_183 0 131 (dk_at dksX7_streets_2 3 rfl rfl)
theorem dX7_streets_54 : decode cX7_streets 54 = .ok (.athrow, 1) := dk_191 (dk_at dksX7_streets_2 6 rfl rfl)
theorem dX7_streets_55 : decode cX7_streets 55 = .ok (.aload_n 0, 1) := dk_42 (dk_at dksX7_streets_2 7 rfl rfl)
theorem dX7_streets_56 : decode cX7_streets 56 = .ok (.invokevirtual 137, 3) := dk_182 0 137 (dk_at dksX7_streets_2 8 rfl rfl)
theorem dX7_streets_59 : decode cX7_streets 59 = .ok (.aload_n 0, 1) := dk_42 (dk_at dksX7_streets_2 11 rfl rfl)
theorem dX7_streets_60 : decode cX7_streets 60 = .ok (.invokevirtual 226, 3) := dk_182 0 226 (dk_at dksX7_streets_2 12 rfl rfl)
theorem dX7_streets_63 : decode cX7_streets 63 = .ok (.istore_n 1, 1) := dk_60 (dk_at dksX7_streets_2 15 rfl rfl)
theorem dX7_streets_64 : decode cX7_streets 64 = .ok (.aload_n 0, 1) := dk_42 (dk_at dksX7_streets_2 16 rfl rfl)
theorem dX7_streets_65 : decode cX7_streets 65 = .ok (.getfield 126, 3) := dk_180 0 126 (dk_at dksX7_streets_2 17 rfl rfl)
theorem dX7_streets_68 : decode cX7_streets 68 = .ok (.iconst 2, 1) := dk_5 (dk_at dksX7_streets_2 20 rfl rfl)
theorem dX7_streets_69 : decode cX7_streets 69 = .ok (.if_icmp .ne 24, 3) := dk_160 0 24 (dk_at dksX7_streets_2 21 rfl rfl)
theorem dX7_streets_72 : decode cX7_streets 72 = .ok (.aload_n 0, 1) := dk_42 (dk_at dksX7_streets_3 0 rfl rfl)
theorem dX7_streets_73 : decode cX7_streets 73 = .ok (.getfield 134, 3) := dk_180 0 134 (dk_at dksX7_streets_3 1 rfl rfl)
theorem dX7_streets_76 : decode cX7_streets 76 = .ok (.iload_n 1, 1) := dk_27 (dk_at dksX7_streets_3 4 rfl rfl)
theorem dX7_streets_77 : decode cX7_streets 77 = .ok (.if_icmp .ne 16, 3) := dk_160 0 16 (dk_at dksX7_streets_3 5 rfl rfl)
theorem dX7_streets_80 : decode cX7_streets 80 = .ok (.new 129, 3) := dk_187 0 129 (dk_at dksX7_streets_3 8 rfl rfl)
theorem dX7_streets_83 : decode cX7_streets 83 = .ok (.dup, 1) := dk_89 (dk_at dksX7_streets_3 11 rfl rfl)
theorem dX7_streets_84 : decode cX7_streets 84 = .ok (.iconst 2, 1) := dk_5 (dk_at dksX7_streets_3 12 rfl rfl)
theorem dX7_streets_85 : decode cX7_streets 85 = .ok (.aload_n 0, 1) := dk_42 (dk_at dksX7_streets_3 13 rfl rfl)
theorem dX7_streets_86 : decode cX7_streets 86 = .ok (.getfield 44, 3) := dk_180 0 44 (dk_at dksX7_streets_3 14 rfl rfl)
theorem dX7_streets_89 : decode cX7_streets 89 = .ok (.invokespecial 131, 3) := dk_183 0 131 (dk_at dksX7_streets_3 17 rfl rfl)
theorem dX7_streets_92 : decode cX7_streets 92 = .ok (.athrow, 1) := dk_191 (dk_at dksX7_streets_3 20 rfl rfl)
theorem dX7_streets_93 : decode cX7_streets 93 = .ok (.aload_n 0, 1) := dk_42 (dk_at dksX7_streets_3 21 rfl rfl)
theorem dX7_streets_94 : decode cX7_streets 94 = .ok (.invokevirtual 226, 3) := dk_182 0 226 (dk_at dksX7_streets_4 0 rfl rfl)
theorem dX7_streets_97 : decode cX7_streets 97 = .ok (.istore_n 2, 1) := dk_61 (dk_at dksX7_streets_4 3 rfl rfl)
theorem dX7_streets_98 : decode cX7_streets 98 = .ok (.aload_n 0, 1) := dk_42 (dk_at dksX7_streets_4 4 rfl rfl)
theorem dX7_streets_99 : decode cX7_streets 99 = .ok (.iconst 1, 1) := dk_4 (dk_at dksX7_streets_4 5 rfl rfl)
theorem dX7_streets_100 : decode cX7_streets 100 = .ok (.bipush 99, 2) := dk_16 99 (dk_at dksX7_streets_4 6 rfl rfl)
theorem dX7_streets_102 : decode cX7_streets 102 = .ok (.invokevirtual 148, 3) := dk_182 0 148 (dk_at dksX7_streets_4 8 rfl rfl)
theorem dX7_streets_105 : decode cX7_streets 105 = .ok (.istore_n 3, 1) := dk_62 (dk_at dksX7_streets_4 11 rfl rfl)
theorem dX7_streets_106 : decode cX7_streets 106 = .ok (.aload_n 0, 1) := dk_42 (dk_at dksX7_streets_4 12 rfl rfl)
theorem dX7_streets_107 : decode cX7_streets 107 = .ok (.bipush 59, 2) := dk_16 59 (dk_at dksX7_streets_4 13 rfl rfl)
theorem dX7_streets_109 : decode cX7_streets 109 = .ok (.invokevirtual 205, 3) := dk_182 0 205 (dk_at dksX7_streets_4 15 rfl rfl)
theorem dX7_streets_112 : decode cX7_streets 112 = .ok (.aload_n 0, 1) := dk_42 (dk_at dksX7_streets_4 18 rfl rfl)
theorem dX7_streets_113 : decode cX7_streets 113 = .ok (.iload_n 1, 1) := dk_27 (dk_at dksX7_streets_4 19 rfl rfl)
theorem dX7_streets_114 : decode cX7_streets 114 = .ok (.iload_n 2, 1) := dk_28 (dk_at dksX7_streets_4 20 rfl rfl)
theorem dX7_streets_115 : decode cX7_streets 115 = .ok (.iload_n 3, 1) := dk_29 (dk_at dksX7_streets_4 21 rfl rfl)
theorem dX7_streets_116 : decode cX7_streets 116 = .ok (.invokevirtual 242, 3) := dk_182 0 242 (dk_at dksX7_streets_5 0 rfl rfl)
theorem dX7_streets_119 : decode cX7_streets 119 = .ok (.aload_n 0, 1) := dk_42 (dk_at dksX7_streets_5 3 rfl rfl)
theorem dX7_streets_120 : decode cX7_streets 120 = .ok (.iload_n 2, 1) := dk_28 (dk_at dksX7_streets_5 4 rfl rfl)
theorem dX7_streets_121 : decode cX7_streets 121 = .ok (.iload_n 1, 1) := dk_27 (dk_at dksX7_streets_5 5 rfl rfl)
theorem dX7_streets_122 : decode cX7_streets 122 = .ok (.iload_n 3, 1) := dk_29 (dk_at dksX7_streets_5 6 rfl rfl)
theorem dX7_streets_123 : decode cX7_streets 123 = .ok (.invokevirtual 242, 3) := dk_182 0 242 (dk_at dksX7_streets_5 7 rfl rfl)
theorem dX7_streets_126 : decode cX7_streets 126 = .ok (.aload_n 0, 1) := dk_42 (dk_at dksX7_streets_5 10 rfl rfl)
theorem dX7_streets_127 : decode cX7_streets 127 = .ok (.dup, 1) := dk_89 (dk_at dksX7_streets_5 11 rfl rfl)
theorem dX7_streets_128 : decode cX7_streets 128 = .ok (.getfield 234, 3) := dk_180 0 234 (dk_at dksX7_streets_5 12 rfl rfl)
theorem dX7_streets_131 : decode cX7_streets 131 = .ok (.iconst 1, 1) := dk_4 (dk_at dksX7_streets_5 15 rfl rfl)
theorem dX7_streets_132 : decode cX7_streets 132 = .ok (.iadd, 1) := dk_96 (dk_at dksX7_streets_5 16 rfl rfl)
theorem dX7_streets_133 : decode cX7_streets 133 = .ok (.putfield 234, 3) := dk_181 0 234 (dk_at dksX7_streets_5 17 rfl rfl)
theorem dX7_streets_136 : decode cX7_streets 136 = .ok (.goto (-132), 3) := dk_167 255 124 (dk_at dksX7_streets_5 20 rfl rfl)
theorem dX7_streets_139 : decode cX7_streets 139 = .ok (.aload_n 0, 1) := dk_42 (dk_at dksX7_streets_5 23 rfl rfl)
theorem dX7_streets_140 : decode cX7_streets 140 = .ok (.getfield 19, 3) := dk_180 0 19 (dk_at dksX7_streets_6 0 rfl rfl)
theorem dX7_streets_143 : decode cX7_streets 143 = .ok (.areturn, 1) := dk_176 (dk_at dksX7_streets_6 3 rfl rfl)
abbrev cX7_lays : ByteArray := prog_13_method_25_code
def yX7_lays : MethodName := ⟨RX7, "lays", "(III)V"⟩
def dkwX7_lays_1 : List UInt8 := [160, 0, 7, 29, 167, 0, 18, 29, 42, 180, 0, 19, 16, 12, 27, 104, 28, 96, 46, 184, 0, 237, 79, 177]
abbrev dktX7_lays_1 : List UInt8 := dkwX7_lays_1 ++ []
def dkwX7_lays_0 : List UInt8 := [42, 180, 0, 19, 16, 12, 27, 104, 28, 96, 42, 180, 0, 19, 16, 12, 27, 104, 28, 96, 46, 2]
abbrev dktX7_lays_0 : List UInt8 := dkwX7_lays_0 ++ dktX7_lays_1
theorem dksX7_lays_0 : cX7_lays.data.toList.drop 0 = dktX7_lays_0 := by decide +kernel
theorem dksX7_lays_1 : cX7_lays.data.toList.drop 22 = dktX7_lays_1 := dk_seg dksX7_lays_0 22 rfl rfl
theorem dX7_lays_0 : decode cX7_lays 0 = .ok (.aload_n 0, 1) := dk_42 (dk_at dksX7_lays_0 0 rfl rfl)
theorem dX7_lays_1 : decode cX7_lays 1 = .ok (.getfield 19, 3) := dk_180 0 19 (dk_at dksX7_lays_0 1 rfl rfl)
theorem dX7_lays_4 : decode cX7_lays 4 = .ok (.bipush 12, 2) := dk_16 12 (dk_at dksX7_lays_0 4 rfl rfl)
theorem dX7_lays_6 : decode cX7_lays 6 = .ok (.iload_n 1, 1) := dk_27 (dk_at dksX7_lays_0 6 rfl rfl)
theorem dX7_lays_7 : decode cX7_lays 7 = .ok (.imul, 1) := dk_104 (dk_at dksX7_lays_0 7 rfl rfl)
theorem dX7_lays_8 : decode cX7_lays 8 = .ok (.iload_n 2, 1) := dk_28 (dk_at dksX7_lays_0 8 rfl rfl)
theorem dX7_lays_9 : decode cX7_lays 9 = .ok (.iadd, 1) := dk_96 (dk_at dksX7_lays_0 9 rfl rfl)
theorem dX7_lays_10 : decode cX7_lays 10 = .ok (.aload_n 0, 1) := dk_42 (dk_at dksX7_lays_0 10 rfl rfl)
theorem dX7_lays_11 : decode cX7_lays 11 = .ok (.getfield 19, 3) := dk_180 0 19 (dk_at dksX7_lays_0 11 rfl rfl)
theorem dX7_lays_14 : decode cX7_lays 14 = .ok (.bipush 12, 2) := dk_16 12 (dk_at dksX7_lays_0 14 rfl rfl)
theorem dX7_lays_16 : decode cX7_lays 16 = .ok (.iload_n 1, 1) := dk_27 (dk_at dksX7_lays_0 16 rfl rfl)
theorem dX7_lays_17 : decode cX7_lays 17 = .ok (.imul, 1) := dk_104 (dk_at dksX7_lays_0 17 rfl rfl)
theorem dX7_lays_18 : decode cX7_lays 18 = .ok (.iload_n 2, 1) := dk_28 (dk_at dksX7_lays_0 18 rfl rfl)
theorem dX7_lays_19 : decode cX7_lays 19 = .ok (.iadd, 1) := dk_96 (dk_at dksX7_lays_0 19 rfl rfl)
theorem dX7_lays_20 : decode cX7_lays 20 = .ok (.iaload, 1) := dk_46 (dk_at dksX7_lays_0 20 rfl rfl)
theorem dX7_lays_21 : decode cX7_lays 21 = .ok (.iconst (-1), 1) := dk_2 (dk_at dksX7_lays_0 21 rfl rfl)
theorem dX7_lays_22 : decode cX7_lays 22 = .ok (.if_icmp .ne 7, 3) := dk_160 0 7 (dk_at dksX7_lays_1 0 rfl rfl)
theorem dX7_lays_25 : decode cX7_lays 25 = .ok (.iload_n 3, 1) := dk_29 (dk_at dksX7_lays_1 3 rfl rfl)
theorem dX7_lays_26 : decode cX7_lays 26 = .ok (.goto 18, 3) := dk_167 0 18 (dk_at dksX7_lays_1 4 rfl rfl)
theorem dX7_lays_29 : decode cX7_lays 29 = .ok (.iload_n 3, 1) := dk_29 (dk_at dksX7_lays_1 7 rfl rfl)
theorem dX7_lays_30 : decode cX7_lays 30 = .ok (.aload_n 0, 1) := dk_42 (dk_at dksX7_lays_1 8 rfl rfl)
theorem dX7_lays_31 : decode cX7_lays 31 = .ok (.getfield 19, 3) := dk_180 0 19 (dk_at dksX7_lays_1 9 rfl rfl)
theorem dX7_lays_34 : decode cX7_lays 34 = .ok (.bipush 12, 2) := dk_16 12 (dk_at dksX7_lays_1 12 rfl rfl)
theorem dX7_lays_36 : decode cX7_lays 36 = .ok (.iload_n 1, 1) := dk_27 (dk_at dksX7_lays_1 14 rfl rfl)
theorem dX7_lays_37 : decode cX7_lays 37 = .ok (.imul, 1) := dk_104 (dk_at dksX7_lays_1 15 rfl rfl)
theorem dX7_lays_38 : decode cX7_lays 38 = .ok (.iload_n 2, 1) := dk_28 (dk_at dksX7_lays_1 16 rfl rfl)
theorem dX7_lays_39 : decode cX7_lays 39 = .ok (.iadd, 1) := dk_96 (dk_at dksX7_lays_1 17 rfl rfl)
theorem dX7_lays_40 : decode cX7_lays 40 = .ok (.iaload, 1) := dk_46 (dk_at dksX7_lays_1 18 rfl rfl)
theorem dX7_lays_41 : decode cX7_lays 41 = .ok (.invokestatic 237, 3) := dk_184 0 237 (dk_at dksX7_lays_1 19 rfl rfl)
theorem dX7_lays_44 : decode cX7_lays 44 = .ok (.iastore, 1) := dk_79 (dk_at dksX7_lays_1 22 rfl rfl)
theorem dX7_lays_45 : decode cX7_lays 45 = .ok (.return_, 1) := dk_177 (dk_at dksX7_lays_1 23 rfl rfl)
theorem q157 : (Jvm.Cond.initialized "KindPostman$Reader") ∈ lw_all := lw_g (lw_at lw_m1 15 rfl) rfl
theorem q343 : (Jvm.Cond.fieldLinkNest "KindPostman$Reader" (143 : Nat) "KindPostman$Walk" "doors" "I" "KindPostman") ∈ lw_tbl := lw_at lw_m1 201 rfl
theorem q434 : (Jvm.Cond.fieldLinkNest "KindPostman$Reader" (32 : Nat) "KindPostman" "tape" "[B" "KindPostman") ∈ lw_tbl := lw_at lw_m2 52 rfl
theorem q435 : (Jvm.Cond.fieldLinkNest "KindPostman$Reader" (29 : Nat) "KindPostman" "taped" "I" "KindPostman") ∈ lw_tbl := lw_at lw_m2 53 rfl
theorem q440 : (Jvm.Cond.fieldLinkNest "KindPostman$Reader" (140 : Nat) "KindPostman" "walk" "LKindPostman$Walk;" "KindPostman") ∈ lw_tbl := lw_at lw_m2 58 rfl
theorem q513 : (Jvm.Cond.instantiable "KindPostman$Reader" (10 : Nat)) ∈ lw_all := lw_g (lw_at lw_m2 131 rfl) rfl
theorem q515 : (Jvm.Cond.instanceMethod ({ cls := "KindPostman$Reader", name := "<init>", desc := "(LKindPostman;I)V" } : Jvm.MethodName)) ∈ lw_all := lw_g (lw_at lw_m2 133 rfl) rfl
theorem q516 : (Jvm.Cond.code ({ cls := "KindPostman$Reader", name := "<init>", desc := "(LKindPostman;I)V" } : Jvm.MethodName) prog_13_method_1_code (4 : Nat) (Option.none : Option Jvm.ClassFile.FieldType)) ∈ lw_all := lw_g (lw_at lw_m2 134 rfl) rfl
theorem q517 : (Jvm.Cond.methodLink "KindPostman$Reader" (9 : Nat) ({ cls := "java/lang/Object", name := "<init>", desc := "()V" } : Jvm.MethodName)) ∈ lw_all := lw_g (lw_at lw_m2 135 rfl) rfl
theorem q518 : (Jvm.Cond.fieldLink "KindPostman$Reader" (22 : Nat) "KindPostman$Reader" "which" "I") ∈ lw_all := lw_g (lw_at lw_m2 136 rfl) rfl
theorem q519 : (Jvm.Cond.fieldLink "KindPostman$Reader" (15 : Nat) "KindPostman$Reader" "round" "[I") ∈ lw_all := lw_g (lw_at lw_m2 137 rfl) rfl
theorem q520 : (Jvm.Cond.fieldLink "KindPostman$Reader" (19 : Nat) "KindPostman$Reader" "street" "[I") ∈ lw_all := lw_g (lw_at lw_m2 138 rfl) rfl
theorem q521 : (Jvm.Cond.fieldLink "KindPostman$Reader" (26 : Nat) "KindPostman$Reader" "at" "I") ∈ lw_all := lw_g (lw_at lw_m2 139 rfl) rfl
theorem q522 : (Jvm.Cond.fieldLink "KindPostman$Reader" (44 : Nat) "KindPostman$Reader" "start" "I") ∈ lw_all := lw_g (lw_at lw_m2 140 rfl) rfl
theorem q523 : (Jvm.Cond.fieldLink "KindPostman$Reader" (126 : Nat) "KindPostman$Reader" "token" "I") ∈ lw_all := lw_g (lw_at lw_m2 141 rfl) rfl
theorem q524 : (Jvm.Cond.fieldLink "KindPostman$Reader" (134 : Nat) "KindPostman$Reader" "value" "I") ∈ lw_all := lw_g (lw_at lw_m2 142 rfl) rfl
theorem q525 : (Jvm.Cond.fieldLink "KindPostman$Reader" (166 : Nat) "KindPostman$Reader" "open" "I") ∈ lw_all := lw_g (lw_at lw_m2 143 rfl) rfl
theorem q527 : (Jvm.Cond.fieldLink "KindPostman$Reader" (234 : Nat) "KindPostman$Reader" "told" "I") ∈ lw_all := lw_g (lw_at lw_m2 145 rfl) rfl
theorem q528 : (Jvm.Cond.fieldLink "KindPostman$Reader" (3 : Nat) "KindPostman$Reader" "this$0" "LKindPostman;") ∈ lw_all := lw_g (lw_at lw_m2 146 rfl) rfl
theorem q529 : (Jvm.Cond.laysFinal "KindPostman$Reader" "KindPostman$Reader" "which" "I") ∈ lw_all := lw_g (lw_at lw_m2 147 rfl) rfl
theorem q530 : (Jvm.Cond.soleField "KindPostman$Reader" "which") ∈ lw_all := lw_g (lw_at lw_m2 148 rfl) rfl
theorem q531 : (Jvm.Cond.laysFinal "KindPostman$Reader" "KindPostman$Reader" "round" "[I") ∈ lw_all := lw_g (lw_at lw_m2 149 rfl) rfl
theorem q532 : (Jvm.Cond.soleField "KindPostman$Reader" "round") ∈ lw_all := lw_g (lw_at lw_m2 150 rfl) rfl
theorem q533 : (Jvm.Cond.laysFinal "KindPostman$Reader" "KindPostman$Reader" "street" "[I") ∈ lw_all := lw_g (lw_at lw_m2 151 rfl) rfl
theorem q534 : (Jvm.Cond.soleField "KindPostman$Reader" "street") ∈ lw_all := lw_g (lw_at lw_m2 152 rfl) rfl
theorem q535 : (Jvm.Cond.lays "KindPostman$Reader" "KindPostman$Reader" "at" "I") ∈ lw_all := lw_g (lw_at lw_m2 153 rfl) rfl
theorem q536 : (Jvm.Cond.soleField "KindPostman$Reader" "at") ∈ lw_all := lw_g (lw_at lw_m2 154 rfl) rfl
theorem q537 : (Jvm.Cond.lays "KindPostman$Reader" "KindPostman$Reader" "start" "I") ∈ lw_all := lw_g (lw_at lw_m2 155 rfl) rfl
theorem q538 : (Jvm.Cond.soleField "KindPostman$Reader" "start") ∈ lw_all := lw_g (lw_at lw_m2 156 rfl) rfl
theorem q539 : (Jvm.Cond.lays "KindPostman$Reader" "KindPostman$Reader" "token" "I") ∈ lw_all := lw_g (lw_at lw_m2 157 rfl) rfl
theorem q540 : (Jvm.Cond.soleField "KindPostman$Reader" "token") ∈ lw_all := lw_g (lw_at lw_m2 158 rfl) rfl
theorem q541 : (Jvm.Cond.lays "KindPostman$Reader" "KindPostman$Reader" "value" "I") ∈ lw_all := lw_g (lw_at lw_m2 159 rfl) rfl
theorem q542 : (Jvm.Cond.soleField "KindPostman$Reader" "value") ∈ lw_all := lw_g (lw_at lw_m2 160 rfl) rfl
theorem q543 : (Jvm.Cond.lays "KindPostman$Reader" "KindPostman$Reader" "open" "I") ∈ lw_all := lw_g (lw_at lw_m2 161 rfl) rfl
theorem q544 : (Jvm.Cond.soleField "KindPostman$Reader" "open") ∈ lw_all := lw_g (lw_at lw_m2 162 rfl) rfl
theorem q545 : (Jvm.Cond.lays "KindPostman$Reader" "KindPostman$Reader" "told" "I") ∈ lw_all := lw_g (lw_at lw_m2 163 rfl) rfl
theorem q546 : (Jvm.Cond.soleField "KindPostman$Reader" "told") ∈ lw_all := lw_g (lw_at lw_m2 164 rfl) rfl
theorem q547 : (Jvm.Cond.laysFinal "KindPostman$Reader" "KindPostman$Reader" "this$0" "LKindPostman;") ∈ lw_all := lw_g (lw_at lw_m2 165 rfl) rfl
theorem q548 : (Jvm.Cond.soleField "KindPostman$Reader" "this$0") ∈ lw_all := lw_g (lw_at lw_m2 166 rfl) rfl
theorem q549 : (Jvm.Cond.superclass "KindPostman$Reader" "java/lang/Object") ∈ lw_all := lw_g (lw_at lw_m2 167 rfl) rfl
theorem q551 : (Jvm.Cond.instanceMethod ({ cls := "KindPostman$Reader", name := "law", desc := "()Ljava/util/ArrayList;" } : Jvm.MethodName)) ∈ lw_all := lw_g (lw_at lw_m2 169 rfl) rfl
theorem q552 : (Jvm.Cond.selects "KindPostman$Reader" ({ cls := "KindPostman$Reader", name := "law", desc := "()Ljava/util/ArrayList;" } : Jvm.MethodName) ({ cls := "KindPostman$Reader", name := "law", desc := "()Ljava/util/ArrayList;" } : Jvm.MethodName)) ∈ lw_all := lw_g (lw_at lw_m2 170 rfl) rfl
theorem q553 : (Jvm.Cond.code ({ cls := "KindPostman$Reader", name := "law", desc := "()Ljava/util/ArrayList;" } : Jvm.MethodName) prog_13_method_22_code (5 : Nat) (Option.some (Jvm.ClassFile.FieldType.object "java/util/ArrayList"))) ∈ lw_all := lw_g (lw_at lw_m2 171 rfl) rfl
theorem q554 : (Jvm.Cond.classLink "KindPostman$Reader" (211 : Nat) "java/util/ArrayList") ∈ lw_all := lw_g (lw_at lw_m2 172 rfl) rfl
theorem q555 : (Jvm.Cond.methodLink "KindPostman$Reader" (213 : Nat) ({ cls := "java/util/ArrayList", name := "<init>", desc := "()V" } : Jvm.MethodName)) ∈ lw_all := lw_g (lw_at lw_m2 173 rfl) rfl
theorem q556 : (Jvm.Cond.methodLink "KindPostman$Reader" (137 : Nat) ({ cls := "KindPostman$Reader", name := "next", desc := "()V" } : Jvm.MethodName)) ∈ lw_all := lw_g (lw_at lw_m2 174 rfl) rfl
theorem q557 : (Jvm.Cond.privateMethod ({ cls := "KindPostman$Reader", name := "next", desc := "()V" } : Jvm.MethodName)) ∈ lw_tbl := lw_at lw_m2 175 rfl
theorem q558 : (Jvm.Cond.instanceMethod ({ cls := "KindPostman$Reader", name := "next", desc := "()V" } : Jvm.MethodName)) ∈ lw_all := lw_g (lw_at lw_m2 176 rfl) rfl
theorem q559 : (Jvm.Cond.code ({ cls := "KindPostman$Reader", name := "next", desc := "()V" } : Jvm.MethodName) prog_13_method_13_code (1 : Nat) (Option.none : Option Jvm.ClassFile.FieldType)) ∈ lw_all := lw_g (lw_at lw_m2 177 rfl) rfl
theorem q560 : (Jvm.Cond.methodLink "KindPostman$Reader" (36 : Nat) ({ cls := "KindPostman$Reader", name := "see", desc := "()I" } : Jvm.MethodName)) ∈ lw_all := lw_g (lw_at lw_m2 178 rfl) rfl
theorem q561 : (Jvm.Cond.privateMethod ({ cls := "KindPostman$Reader", name := "see", desc := "()I" } : Jvm.MethodName)) ∈ lw_tbl := lw_at lw_m2 179 rfl
theorem q562 : (Jvm.Cond.instanceMethod ({ cls := "KindPostman$Reader", name := "see", desc := "()I" } : Jvm.MethodName)) ∈ lw_all := lw_g (lw_at lw_m2 180 rfl) rfl
theorem q563 : (Jvm.Cond.code ({ cls := "KindPostman$Reader", name := "see", desc := "()I" } : Jvm.MethodName) prog_13_method_2_code (1 : Nat) (Option.some Jvm.ClassFile.FieldType.int)) ∈ lw_all := lw_g (lw_at lw_m2 181 rfl) rfl
theorem q564 : (Jvm.Cond.methodLink "KindPostman$Reader" (152 : Nat) ({ cls := "KindPostman$Reader", name := "isLetter", desc := "()Z" } : Jvm.MethodName)) ∈ lw_all := lw_g (lw_at lw_m2 182 rfl) rfl
theorem q565 : (Jvm.Cond.privateMethod ({ cls := "KindPostman$Reader", name := "isLetter", desc := "()Z" } : Jvm.MethodName)) ∈ lw_tbl := lw_at lw_m2 183 rfl
theorem q566 : (Jvm.Cond.instanceMethod ({ cls := "KindPostman$Reader", name := "isLetter", desc := "()Z" } : Jvm.MethodName)) ∈ lw_all := lw_g (lw_at lw_m2 184 rfl) rfl
theorem q567 : (Jvm.Cond.code ({ cls := "KindPostman$Reader", name := "isLetter", desc := "()Z" } : Jvm.MethodName) prog_13_method_3_code (1 : Nat) (Option.some Jvm.ClassFile.FieldType.boolean)) ∈ lw_all := lw_g (lw_at lw_m2 185 rfl) rfl
theorem q568 : (Jvm.Cond.methodLinkNest "KindPostman$Reader" (40 : Nat) ({ cls := "KindPostman", name := "isIn", desc := "(III)Z" } : Jvm.MethodName) "KindPostman") ∈ lw_tbl := lw_at lw_m2 186 rfl
theorem q569 : (Jvm.Cond.methodLink "KindPostman$Reader" (156 : Nat) ({ cls := "KindPostman$Reader", name := "keyword", desc := "()I" } : Jvm.MethodName)) ∈ lw_all := lw_g (lw_at lw_m2 187 rfl) rfl
theorem q570 : (Jvm.Cond.privateMethod ({ cls := "KindPostman$Reader", name := "keyword", desc := "()I" } : Jvm.MethodName)) ∈ lw_tbl := lw_at lw_m2 188 rfl
theorem q571 : (Jvm.Cond.instanceMethod ({ cls := "KindPostman$Reader", name := "keyword", desc := "()I" } : Jvm.MethodName)) ∈ lw_all := lw_g (lw_at lw_m2 189 rfl) rfl
theorem q572 : (Jvm.Cond.code ({ cls := "KindPostman$Reader", name := "keyword", desc := "()I" } : Jvm.MethodName) prog_13_method_9_code (1 : Nat) (Option.some Jvm.ClassFile.FieldType.int)) ∈ lw_all := lw_g (lw_at lw_m2 190 rfl) rfl
theorem q573 : (Jvm.Cond.methodLink "KindPostman$Reader" (117 : Nat) ({ cls := "KindPostman$Reader", name := "lawWord", desc := "()I" } : Jvm.MethodName)) ∈ lw_all := lw_g (lw_at lw_m2 191 rfl) rfl
theorem q574 : (Jvm.Cond.privateMethod ({ cls := "KindPostman$Reader", name := "lawWord", desc := "()I" } : Jvm.MethodName)) ∈ lw_tbl := lw_at lw_m2 192 rfl
theorem q575 : (Jvm.Cond.instanceMethod ({ cls := "KindPostman$Reader", name := "lawWord", desc := "()I" } : Jvm.MethodName)) ∈ lw_all := lw_g (lw_at lw_m2 193 rfl) rfl
theorem q576 : (Jvm.Cond.code ({ cls := "KindPostman$Reader", name := "lawWord", desc := "()I" } : Jvm.MethodName) prog_13_method_7_code (1 : Nat) (Option.some Jvm.ClassFile.FieldType.int)) ∈ lw_all := lw_g (lw_at lw_m2 194 rfl) rfl
theorem q577 : (Jvm.Cond.stringRef "KindPostman$Reader" (82 : Nat) "when") ∈ lw_tbl := lw_at lw_m2 195 rfl
theorem q578 : (Jvm.Cond.methodLink "KindPostman$Reader" (58 : Nat) ({ cls := "KindPostman$Reader", name := "is", desc := "(Ljava/lang/String;)Z" } : Jvm.MethodName)) ∈ lw_all := lw_g (lw_at lw_m2 196 rfl) rfl
theorem q579 : (Jvm.Cond.privateMethod ({ cls := "KindPostman$Reader", name := "is", desc := "(Ljava/lang/String;)Z" } : Jvm.MethodName)) ∈ lw_tbl := lw_at lw_m2 197 rfl
theorem q580 : (Jvm.Cond.instanceMethod ({ cls := "KindPostman$Reader", name := "is", desc := "(Ljava/lang/String;)Z" } : Jvm.MethodName)) ∈ lw_all := lw_g (lw_at lw_m2 198 rfl) rfl
theorem q581 : (Jvm.Cond.code ({ cls := "KindPostman$Reader", name := "is", desc := "(Ljava/lang/String;)Z" } : Jvm.MethodName) prog_13_method_5_code (4 : Nat) (Option.some Jvm.ClassFile.FieldType.boolean)) ∈ lw_all := lw_g (lw_at lw_m2 199 rfl) rfl
theorem q582 : (Jvm.Cond.methodLink "KindPostman$Reader" (47 : Nat) ({ cls := "java/lang/String", name := "length", desc := "()I" } : Jvm.MethodName)) ∈ lw_all := lw_g (lw_at lw_m2 200 rfl) rfl
theorem q592 : (Jvm.Cond.methodLink "KindPostman$Reader" (52 : Nat) ({ cls := "java/lang/String", name := "charAt", desc := "(I)C" } : Jvm.MethodName)) ∈ lw_all := lw_g (lw_at lw_m2 210 rfl) rfl
theorem q630 : (Jvm.Cond.stringRef "KindPostman$Reader" (84 : Nat) "or") ∈ lw_tbl := lw_at lw_m3 8 rfl
theorem q631 : (Jvm.Cond.stringRef "KindPostman$Reader" (86 : Nat) "and") ∈ lw_tbl := lw_at lw_m3 9 rfl
theorem q632 : (Jvm.Cond.stringRef "KindPostman$Reader" (88 : Nat) "not") ∈ lw_tbl := lw_at lw_m3 10 rfl
theorem q633 : (Jvm.Cond.stringRef "KindPostman$Reader" (90 : Nat) "opens") ∈ lw_tbl := lw_at lw_m3 11 rfl
theorem q634 : (Jvm.Cond.stringRef "KindPostman$Reader" (92 : Nat) "gives") ∈ lw_tbl := lw_at lw_m3 12 rfl
theorem q635 : (Jvm.Cond.stringRef "KindPostman$Reader" (94 : Nat) "tires") ∈ lw_tbl := lw_at lw_m3 13 rfl
theorem q636 : (Jvm.Cond.methodLink "KindPostman$Reader" (96 : Nat) ({ cls := "KindPostman$Reader", name := "asked", desc := "()I" } : Jvm.MethodName)) ∈ lw_all := lw_g (lw_at lw_m3 14 rfl) rfl
theorem q637 : (Jvm.Cond.privateMethod ({ cls := "KindPostman$Reader", name := "asked", desc := "()I" } : Jvm.MethodName)) ∈ lw_tbl := lw_at lw_m3 15 rfl
theorem q638 : (Jvm.Cond.instanceMethod ({ cls := "KindPostman$Reader", name := "asked", desc := "()I" } : Jvm.MethodName)) ∈ lw_all := lw_g (lw_at lw_m3 16 rfl) rfl
theorem q639 : (Jvm.Cond.code ({ cls := "KindPostman$Reader", name := "asked", desc := "()I" } : Jvm.MethodName) prog_13_method_6_code (1 : Nat) (Option.some Jvm.ClassFile.FieldType.int)) ∈ lw_all := lw_g (lw_at lw_m3 17 rfl) rfl
theorem q640 : (Jvm.Cond.stringRef "KindPostman$Reader" (56 : Nat) "kind") ∈ lw_tbl := lw_at lw_m3 18 rfl
theorem q641 : (Jvm.Cond.stringRef "KindPostman$Reader" (62 : Nat) "much") ∈ lw_tbl := lw_at lw_m3 19 rfl
theorem q642 : (Jvm.Cond.stringRef "KindPostman$Reader" (64 : Nat) "age") ∈ lw_tbl := lw_at lw_m3 20 rfl
theorem q643 : (Jvm.Cond.stringRef "KindPostman$Reader" (66 : Nat) "face") ∈ lw_tbl := lw_at lw_m3 21 rfl
theorem q644 : (Jvm.Cond.stringRef "KindPostman$Reader" (68 : Nat) "love") ∈ lw_tbl := lw_at lw_m3 22 rfl
theorem q645 : (Jvm.Cond.stringRef "KindPostman$Reader" (70 : Nat) "purse") ∈ lw_tbl := lw_at lw_m3 23 rfl
theorem q646 : (Jvm.Cond.stringRef "KindPostman$Reader" (72 : Nat) "health") ∈ lw_tbl := lw_at lw_m3 24 rfl
theorem q647 : (Jvm.Cond.stringRef "KindPostman$Reader" (74 : Nat) "hunger") ∈ lw_tbl := lw_at lw_m3 25 rfl
theorem q648 : (Jvm.Cond.stringRef "KindPostman$Reader" (76 : Nat) "hour") ∈ lw_tbl := lw_at lw_m3 26 rfl
theorem q649 : (Jvm.Cond.stringRef "KindPostman$Reader" (78 : Nat) "rain") ∈ lw_tbl := lw_at lw_m3 27 rfl
theorem q650 : (Jvm.Cond.stringRef "KindPostman$Reader" (80 : Nat) "day") ∈ lw_tbl := lw_at lw_m3 28 rfl
theorem q651 : (Jvm.Cond.methodLink "KindPostman$Reader" (120 : Nat) ({ cls := "KindPostman$Reader", name := "postWord", desc := "()I" } : Jvm.MethodName)) ∈ lw_all := lw_g (lw_at lw_m3 29 rfl) rfl
theorem q652 : (Jvm.Cond.privateMethod ({ cls := "KindPostman$Reader", name := "postWord", desc := "()I" } : Jvm.MethodName)) ∈ lw_tbl := lw_at lw_m3 30 rfl
theorem q653 : (Jvm.Cond.instanceMethod ({ cls := "KindPostman$Reader", name := "postWord", desc := "()I" } : Jvm.MethodName)) ∈ lw_all := lw_g (lw_at lw_m3 31 rfl) rfl
theorem q654 : (Jvm.Cond.code ({ cls := "KindPostman$Reader", name := "postWord", desc := "()I" } : Jvm.MethodName) prog_13_method_8_code (1 : Nat) (Option.some Jvm.ClassFile.FieldType.int)) ∈ lw_all := lw_g (lw_at lw_m3 32 rfl) rfl
theorem q655 : (Jvm.Cond.stringRef "KindPostman$Reader" (99 : Nat) "on") ∈ lw_tbl := lw_at lw_m3 33 rfl
theorem q656 : (Jvm.Cond.stringRef "KindPostman$Reader" (101 : Nat) "to") ∈ lw_tbl := lw_at lw_m3 34 rfl
theorem q657 : (Jvm.Cond.stringRef "KindPostman$Reader" (103 : Nat) "news") ∈ lw_tbl := lw_at lw_m3 35 rfl
theorem q658 : (Jvm.Cond.stringRef "KindPostman$Reader" (105 : Nat) "bill") ∈ lw_tbl := lw_at lw_m3 36 rfl
theorem q659 : (Jvm.Cond.stringRef "KindPostman$Reader" (107 : Nat) "kiss") ∈ lw_tbl := lw_at lw_m3 37 rfl
theorem q660 : (Jvm.Cond.stringRef "KindPostman$Reader" (109 : Nat) "anger") ∈ lw_tbl := lw_at lw_m3 38 rfl
theorem q661 : (Jvm.Cond.stringRef "KindPostman$Reader" (111 : Nat) "invitation") ∈ lw_tbl := lw_at lw_m3 39 rfl
theorem q662 : (Jvm.Cond.stringRef "KindPostman$Reader" (113 : Nat) "text") ∈ lw_tbl := lw_at lw_m3 40 rfl
theorem q663 : (Jvm.Cond.stringRef "KindPostman$Reader" (115 : Nat) "joke") ∈ lw_tbl := lw_at lw_m3 41 rfl
theorem q664 : (Jvm.Cond.stringRef "KindPostman$Reader" (123 : Nat) "walk") ∈ lw_tbl := lw_at lw_m3 42 rfl
theorem q665 : (Jvm.Cond.stringRef "KindPostman$Reader" (125 : Nat) "street") ∈ lw_tbl := lw_at lw_m3 43 rfl
theorem q666 : (Jvm.Cond.methodLink "KindPostman$Reader" (159 : Nat) ({ cls := "KindPostman$Reader", name := "isDigit", desc := "()Z" } : Jvm.MethodName)) ∈ lw_all := lw_g (lw_at lw_m3 44 rfl) rfl
theorem q667 : (Jvm.Cond.privateMethod ({ cls := "KindPostman$Reader", name := "isDigit", desc := "()Z" } : Jvm.MethodName)) ∈ lw_tbl := lw_at lw_m3 45 rfl
theorem q668 : (Jvm.Cond.instanceMethod ({ cls := "KindPostman$Reader", name := "isDigit", desc := "()Z" } : Jvm.MethodName)) ∈ lw_all := lw_g (lw_at lw_m3 46 rfl) rfl
theorem q669 : (Jvm.Cond.code ({ cls := "KindPostman$Reader", name := "isDigit", desc := "()Z" } : Jvm.MethodName) prog_13_method_4_code (1 : Nat) (Option.some Jvm.ClassFile.FieldType.boolean)) ∈ lw_all := lw_g (lw_at lw_m3 47 rfl) rfl
theorem q670 : (Jvm.Cond.methodLink "KindPostman$Reader" (162 : Nat) ({ cls := "KindPostman$Reader", name := "isMark", desc := "(I)Z" } : Jvm.MethodName)) ∈ lw_all := lw_g (lw_at lw_m3 48 rfl) rfl
theorem q671 : (Jvm.Cond.privateMethod ({ cls := "KindPostman$Reader", name := "isMark", desc := "(I)Z" } : Jvm.MethodName)) ∈ lw_tbl := lw_at lw_m3 49 rfl
theorem q672 : (Jvm.Cond.instanceMethod ({ cls := "KindPostman$Reader", name := "isMark", desc := "(I)Z" } : Jvm.MethodName)) ∈ lw_all := lw_g (lw_at lw_m3 50 rfl) rfl
theorem q673 : (Jvm.Cond.code ({ cls := "KindPostman$Reader", name := "isMark", desc := "(I)Z" } : Jvm.MethodName) prog_13_method_12_code (2 : Nat) (Option.some Jvm.ClassFile.FieldType.boolean)) ∈ lw_all := lw_g (lw_at lw_m3 51 rfl) rfl
theorem q674 : (Jvm.Cond.classLink "KindPostman$Reader" (129 : Nat) "KindPostman$Fault") ∈ lw_all := lw_g (lw_at lw_m3 52 rfl) rfl
theorem q711 : (Jvm.Cond.methodLink "KindPostman$Reader" (131 : Nat) ({ cls := "KindPostman$Fault", name := "<init>", desc := "(II)V" } : Jvm.MethodName)) ∈ lw_all := lw_g (lw_at lw_m3 89 rfl) rfl
theorem q738 : (Jvm.Cond.methodLink "KindPostman$Reader" (214 : Nat) ({ cls := "java/util/ArrayList", name := "size", desc := "()I" } : Jvm.MethodName)) ∈ lw_all := lw_g (lw_at lw_m3 116 rfl) rfl
theorem q742 : (Jvm.Cond.methodLink "KindPostman$Reader" (208 : Nat) ({ cls := "KindPostman$Reader", name := "sum", desc := "()LKindPostman$Term;" } : Jvm.MethodName)) ∈ lw_all := lw_g (lw_at lw_m3 120 rfl) rfl
theorem q743 : (Jvm.Cond.privateMethod ({ cls := "KindPostman$Reader", name := "sum", desc := "()LKindPostman$Term;" } : Jvm.MethodName)) ∈ lw_tbl := lw_at lw_m3 121 rfl
theorem q744 : (Jvm.Cond.instanceMethod ({ cls := "KindPostman$Reader", name := "sum", desc := "()LKindPostman$Term;" } : Jvm.MethodName)) ∈ lw_all := lw_g (lw_at lw_m3 122 rfl) rfl
theorem q745 : (Jvm.Cond.code ({ cls := "KindPostman$Reader", name := "sum", desc := "()LKindPostman$Term;" } : Jvm.MethodName) prog_13_method_16_code (3 : Nat) (Option.some (Jvm.ClassFile.FieldType.object "KindPostman$Term"))) ∈ lw_all := lw_g (lw_at lw_m3 123 rfl) rfl
theorem q746 : (Jvm.Cond.methodLink "KindPostman$Reader" (169 : Nat) ({ cls := "KindPostman$Reader", name := "product", desc := "()LKindPostman$Term;" } : Jvm.MethodName)) ∈ lw_all := lw_g (lw_at lw_m3 124 rfl) rfl
theorem q747 : (Jvm.Cond.privateMethod ({ cls := "KindPostman$Reader", name := "product", desc := "()LKindPostman$Term;" } : Jvm.MethodName)) ∈ lw_tbl := lw_at lw_m3 125 rfl
theorem q748 : (Jvm.Cond.instanceMethod ({ cls := "KindPostman$Reader", name := "product", desc := "()LKindPostman$Term;" } : Jvm.MethodName)) ∈ lw_all := lw_g (lw_at lw_m3 126 rfl) rfl
theorem q749 : (Jvm.Cond.code ({ cls := "KindPostman$Reader", name := "product", desc := "()LKindPostman$Term;" } : Jvm.MethodName) prog_13_method_17_code (3 : Nat) (Option.some (Jvm.ClassFile.FieldType.object "KindPostman$Term"))) ∈ lw_all := lw_g (lw_at lw_m3 127 rfl) rfl
theorem q750 : (Jvm.Cond.methodLink "KindPostman$Reader" (178 : Nat) ({ cls := "KindPostman$Reader", name := "unit", desc := "()LKindPostman$Term;" } : Jvm.MethodName)) ∈ lw_all := lw_g (lw_at lw_m3 128 rfl) rfl
theorem q751 : (Jvm.Cond.privateMethod ({ cls := "KindPostman$Reader", name := "unit", desc := "()LKindPostman$Term;" } : Jvm.MethodName)) ∈ lw_tbl := lw_at lw_m3 129 rfl
theorem q752 : (Jvm.Cond.instanceMethod ({ cls := "KindPostman$Reader", name := "unit", desc := "()LKindPostman$Term;" } : Jvm.MethodName)) ∈ lw_all := lw_g (lw_at lw_m3 130 rfl) rfl
theorem q753 : (Jvm.Cond.code ({ cls := "KindPostman$Reader", name := "unit", desc := "()LKindPostman$Term;" } : Jvm.MethodName) prog_13_method_18_code (2 : Nat) (Option.some (Jvm.ClassFile.FieldType.object "KindPostman$Term"))) ∈ lw_all := lw_g (lw_at lw_m3 131 rfl) rfl
theorem q754 : (Jvm.Cond.classLink "KindPostman$Reader" (181 : Nat) "KindPostman$Fixed") ∈ lw_all := lw_g (lw_at lw_m3 132 rfl) rfl
theorem q756 : (Jvm.Cond.methodLink "KindPostman$Reader" (148 : Nat) ({ cls := "KindPostman$Reader", name := "number", desc := "(II)I" } : Jvm.MethodName)) ∈ lw_all := lw_g (lw_at lw_m3 134 rfl) rfl
theorem q757 : (Jvm.Cond.privateMethod ({ cls := "KindPostman$Reader", name := "number", desc := "(II)I" } : Jvm.MethodName)) ∈ lw_tbl := lw_at lw_m3 135 rfl
theorem q758 : (Jvm.Cond.instanceMethod ({ cls := "KindPostman$Reader", name := "number", desc := "(II)I" } : Jvm.MethodName)) ∈ lw_all := lw_g (lw_at lw_m3 136 rfl) rfl
theorem q759 : (Jvm.Cond.code ({ cls := "KindPostman$Reader", name := "number", desc := "(II)I" } : Jvm.MethodName) prog_13_method_10_code (4 : Nat) (Option.some Jvm.ClassFile.FieldType.int)) ∈ lw_all := lw_g (lw_at lw_m3 137 rfl) rfl
theorem q760 : (Jvm.Cond.methodLink "KindPostman$Reader" (183 : Nat) ({ cls := "KindPostman$Fixed", name := "<init>", desc := "(I)V" } : Jvm.MethodName)) ∈ lw_all := lw_g (lw_at lw_m3 138 rfl) rfl
theorem q771 : (Jvm.Cond.classLink "KindPostman$Reader" (186 : Nat) "KindPostman$Known") ∈ lw_all := lw_g (lw_at lw_m3 149 rfl) rfl
theorem q773 : (Jvm.Cond.methodLink "KindPostman$Reader" (188 : Nat) ({ cls := "KindPostman$Known", name := "<init>", desc := "(I)V" } : Jvm.MethodName)) ∈ lw_all := lw_g (lw_at lw_m3 151 rfl) rfl
theorem q781 : (Jvm.Cond.classLink "KindPostman$Reader" (173 : Nat) "KindPostman$Joined") ∈ lw_all := lw_g (lw_at lw_m3 159 rfl) rfl
theorem q783 : (Jvm.Cond.methodLink "KindPostman$Reader" (175 : Nat) ({ cls := "KindPostman$Joined", name := "<init>", desc := "(LKindPostman$Term;ILKindPostman$Term;)V" } : Jvm.MethodName)) ∈ lw_all := lw_g (lw_at lw_m3 161 rfl) rfl
theorem q797 : (Jvm.Cond.methodLink "KindPostman$Reader" (202 : Nat) ({ cls := "KindPostman$Reader", name := "any", desc := "()LKindPostman$Term;" } : Jvm.MethodName)) ∈ lw_all := lw_g (lw_at lw_m3 175 rfl) rfl
theorem q798 : (Jvm.Cond.privateMethod ({ cls := "KindPostman$Reader", name := "any", desc := "()LKindPostman$Term;" } : Jvm.MethodName)) ∈ lw_tbl := lw_at lw_m3 176 rfl
theorem q799 : (Jvm.Cond.instanceMethod ({ cls := "KindPostman$Reader", name := "any", desc := "()LKindPostman$Term;" } : Jvm.MethodName)) ∈ lw_all := lw_g (lw_at lw_m3 177 rfl) rfl
theorem q800 : (Jvm.Cond.code ({ cls := "KindPostman$Reader", name := "any", desc := "()LKindPostman$Term;" } : Jvm.MethodName) prog_13_method_19_code (2 : Nat) (Option.some (Jvm.ClassFile.FieldType.object "KindPostman$Term"))) ∈ lw_all := lw_g (lw_at lw_m3 178 rfl) rfl
theorem q801 : (Jvm.Cond.methodLink "KindPostman$Reader" (189 : Nat) ({ cls := "KindPostman$Reader", name := "all", desc := "()LKindPostman$Term;" } : Jvm.MethodName)) ∈ lw_all := lw_g (lw_at lw_m3 179 rfl) rfl
theorem q802 : (Jvm.Cond.privateMethod ({ cls := "KindPostman$Reader", name := "all", desc := "()LKindPostman$Term;" } : Jvm.MethodName)) ∈ lw_tbl := lw_at lw_m3 180 rfl
theorem q803 : (Jvm.Cond.instanceMethod ({ cls := "KindPostman$Reader", name := "all", desc := "()LKindPostman$Term;" } : Jvm.MethodName)) ∈ lw_all := lw_g (lw_at lw_m3 181 rfl) rfl
theorem q804 : (Jvm.Cond.code ({ cls := "KindPostman$Reader", name := "all", desc := "()LKindPostman$Term;" } : Jvm.MethodName) prog_13_method_20_code (2 : Nat) (Option.some (Jvm.ClassFile.FieldType.object "KindPostman$Term"))) ∈ lw_all := lw_g (lw_at lw_m3 182 rfl) rfl
theorem q805 : (Jvm.Cond.methodLink "KindPostman$Reader" (192 : Nat) ({ cls := "KindPostman$Reader", name := "one", desc := "()LKindPostman$Term;" } : Jvm.MethodName)) ∈ lw_all := lw_g (lw_at lw_m3 183 rfl) rfl
theorem q806 : (Jvm.Cond.privateMethod ({ cls := "KindPostman$Reader", name := "one", desc := "()LKindPostman$Term;" } : Jvm.MethodName)) ∈ lw_tbl := lw_at lw_m3 184 rfl
theorem q807 : (Jvm.Cond.instanceMethod ({ cls := "KindPostman$Reader", name := "one", desc := "()LKindPostman$Term;" } : Jvm.MethodName)) ∈ lw_all := lw_g (lw_at lw_m3 185 rfl) rfl
theorem q808 : (Jvm.Cond.code ({ cls := "KindPostman$Reader", name := "one", desc := "()LKindPostman$Term;" } : Jvm.MethodName) prog_13_method_21_code (3 : Nat) (Option.some (Jvm.ClassFile.FieldType.object "KindPostman$Term"))) ∈ lw_all := lw_g (lw_at lw_m3 186 rfl) rfl
theorem q809 : (Jvm.Cond.methodLink "KindPostman$Reader" (195 : Nat) ({ cls := "KindPostman$Reader", name := "opens", desc := "()V" } : Jvm.MethodName)) ∈ lw_all := lw_g (lw_at lw_m3 187 rfl) rfl
theorem q810 : (Jvm.Cond.privateMethod ({ cls := "KindPostman$Reader", name := "opens", desc := "()V" } : Jvm.MethodName)) ∈ lw_tbl := lw_at lw_m3 188 rfl
theorem q811 : (Jvm.Cond.instanceMethod ({ cls := "KindPostman$Reader", name := "opens", desc := "()V" } : Jvm.MethodName)) ∈ lw_all := lw_g (lw_at lw_m3 189 rfl) rfl
theorem q812 : (Jvm.Cond.code ({ cls := "KindPostman$Reader", name := "opens", desc := "()V" } : Jvm.MethodName) prog_13_method_15_code (1 : Nat) (Option.none : Option Jvm.ClassFile.FieldType)) ∈ lw_all := lw_g (lw_at lw_m3 190 rfl) rfl
theorem q813 : (Jvm.Cond.classLink "KindPostman$Reader" (197 : Nat) "KindPostman$Not") ∈ lw_all := lw_g (lw_at lw_m3 191 rfl) rfl
theorem q815 : (Jvm.Cond.methodLink "KindPostman$Reader" (199 : Nat) ({ cls := "KindPostman$Not", name := "<init>", desc := "(LKindPostman$Term;)V" } : Jvm.MethodName)) ∈ lw_all := lw_g (lw_at lw_m3 193 rfl) rfl
theorem q823 : (Jvm.Cond.methodLink "KindPostman$Reader" (205 : Nat) ({ cls := "KindPostman$Reader", name := "must", desc := "(I)V" } : Jvm.MethodName)) ∈ lw_all := lw_g (lw_at lw_m3 201 rfl) rfl
theorem q824 : (Jvm.Cond.privateMethod ({ cls := "KindPostman$Reader", name := "must", desc := "(I)V" } : Jvm.MethodName)) ∈ lw_tbl := lw_at lw_m3 202 rfl
theorem q825 : (Jvm.Cond.instanceMethod ({ cls := "KindPostman$Reader", name := "must", desc := "(I)V" } : Jvm.MethodName)) ∈ lw_all := lw_g (lw_at lw_m3 203 rfl) rfl
theorem q826 : (Jvm.Cond.code ({ cls := "KindPostman$Reader", name := "must", desc := "(I)V" } : Jvm.MethodName) prog_13_method_14_code (2 : Nat) (Option.none : Option Jvm.ClassFile.FieldType)) ∈ lw_all := lw_g (lw_at lw_m3 204 rfl) rfl
theorem q827 : (Jvm.Cond.classLink "KindPostman$Reader" (217 : Nat) "KindPostman$Line") ∈ lw_all := lw_g (lw_at lw_m3 205 rfl) rfl
theorem q829 : (Jvm.Cond.methodLink "KindPostman$Reader" (219 : Nat) ({ cls := "KindPostman$Line", name := "<init>", desc := "(ILKindPostman$Term;LKindPostman$Term;)V" } : Jvm.MethodName)) ∈ lw_all := lw_g (lw_at lw_m3 207 rfl) rfl
theorem q846 : (Jvm.Cond.methodLink "KindPostman$Reader" (222 : Nat) ({ cls := "java/util/ArrayList", name := "add", desc := "(Ljava/lang/Object;)Z" } : Jvm.MethodName)) ∈ lw_all := lw_g (lw_at lw_m3 224 rfl) rfl
theorem q889 : (Jvm.Cond.selects "KindPostman$Reader" ({ cls := "java/lang/Object", name := "getClass", desc := "()Ljava/lang/Class;" } : Jvm.MethodName) ({ cls := "java/lang/Object", name := "getClass", desc := "()Ljava/lang/Class;" } : Jvm.MethodName)) ∈ lw_all := lw_g (lw_at lw_m4 27 rfl) rfl
theorem q911 : (Jvm.Cond.instanceMethod ({ cls := "KindPostman$Reader", name := "post", desc := "()Ljava/util/ArrayList;" } : Jvm.MethodName)) ∈ lw_all := lw_g (lw_at lw_m4 49 rfl) rfl
theorem q912 : (Jvm.Cond.selects "KindPostman$Reader" ({ cls := "KindPostman$Reader", name := "post", desc := "()Ljava/util/ArrayList;" } : Jvm.MethodName) ({ cls := "KindPostman$Reader", name := "post", desc := "()Ljava/util/ArrayList;" } : Jvm.MethodName)) ∈ lw_all := lw_g (lw_at lw_m4 50 rfl) rfl
theorem q913 : (Jvm.Cond.code ({ cls := "KindPostman$Reader", name := "post", desc := "()Ljava/util/ArrayList;" } : Jvm.MethodName) prog_13_method_23_code (5 : Nat) (Option.some (Jvm.ClassFile.FieldType.object "java/util/ArrayList"))) ∈ lw_all := lw_g (lw_at lw_m4 51 rfl) rfl
theorem q914 : (Jvm.Cond.methodLink "KindPostman$Reader" (226 : Nat) ({ cls := "KindPostman$Reader", name := "door", desc := "()I" } : Jvm.MethodName)) ∈ lw_all := lw_g (lw_at lw_m4 52 rfl) rfl
theorem q915 : (Jvm.Cond.privateMethod ({ cls := "KindPostman$Reader", name := "door", desc := "()I" } : Jvm.MethodName)) ∈ lw_tbl := lw_at lw_m4 53 rfl
theorem q916 : (Jvm.Cond.instanceMethod ({ cls := "KindPostman$Reader", name := "door", desc := "()I" } : Jvm.MethodName)) ∈ lw_all := lw_g (lw_at lw_m4 54 rfl) rfl
theorem q917 : (Jvm.Cond.code ({ cls := "KindPostman$Reader", name := "door", desc := "()I" } : Jvm.MethodName) prog_13_method_11_code (1 : Nat) (Option.some Jvm.ClassFile.FieldType.int)) ∈ lw_all := lw_g (lw_at lw_m4 55 rfl) rfl
theorem q918 : (Jvm.Cond.classLink "KindPostman$Reader" (229 : Nat) "KindPostman$Posting") ∈ lw_all := lw_g (lw_at lw_m4 56 rfl) rfl
theorem q920 : (Jvm.Cond.methodLink "KindPostman$Reader" (231 : Nat) ({ cls := "KindPostman$Posting", name := "<init>", desc := "(IIII)V" } : Jvm.MethodName)) ∈ lw_all := lw_g (lw_at lw_m4 58 rfl) rfl
theorem q946 : (Jvm.Cond.instanceMethod ({ cls := "KindPostman$Reader", name := "round", desc := "()[I" } : Jvm.MethodName)) ∈ lw_all := lw_g (lw_at lw_m4 84 rfl) rfl
theorem q947 : (Jvm.Cond.selects "KindPostman$Reader" ({ cls := "KindPostman$Reader", name := "round", desc := "()[I" } : Jvm.MethodName) ({ cls := "KindPostman$Reader", name := "round", desc := "()[I" } : Jvm.MethodName)) ∈ lw_all := lw_g (lw_at lw_m4 85 rfl) rfl
theorem q948 : (Jvm.Cond.code ({ cls := "KindPostman$Reader", name := "round", desc := "()[I" } : Jvm.MethodName) prog_13_method_24_code (1 : Nat) (Option.some (Jvm.ClassFile.FieldType.array Jvm.ClassFile.FieldType.int))) ∈ lw_all := lw_g (lw_at lw_m4 86 rfl) rfl
theorem q950 : (Jvm.Cond.instanceMethod ({ cls := "KindPostman$Reader", name := "streets", desc := "()[I" } : Jvm.MethodName)) ∈ lw_all := lw_g (lw_at lw_m4 88 rfl) rfl
theorem q951 : (Jvm.Cond.selects "KindPostman$Reader" ({ cls := "KindPostman$Reader", name := "streets", desc := "()[I" } : Jvm.MethodName) ({ cls := "KindPostman$Reader", name := "streets", desc := "()[I" } : Jvm.MethodName)) ∈ lw_all := lw_g (lw_at lw_m4 89 rfl) rfl
theorem q952 : (Jvm.Cond.code ({ cls := "KindPostman$Reader", name := "streets", desc := "()[I" } : Jvm.MethodName) prog_13_method_26_code (4 : Nat) (Option.some (Jvm.ClassFile.FieldType.array Jvm.ClassFile.FieldType.int))) ∈ lw_all := lw_g (lw_at lw_m4 90 rfl) rfl
theorem q953 : (Jvm.Cond.methodLink "KindPostman$Reader" (242 : Nat) ({ cls := "KindPostman$Reader", name := "lays", desc := "(III)V" } : Jvm.MethodName)) ∈ lw_all := lw_g (lw_at lw_m4 91 rfl) rfl
theorem q954 : (Jvm.Cond.privateMethod ({ cls := "KindPostman$Reader", name := "lays", desc := "(III)V" } : Jvm.MethodName)) ∈ lw_tbl := lw_at lw_m4 92 rfl
theorem q955 : (Jvm.Cond.instanceMethod ({ cls := "KindPostman$Reader", name := "lays", desc := "(III)V" } : Jvm.MethodName)) ∈ lw_all := lw_g (lw_at lw_m4 93 rfl) rfl
theorem q956 : (Jvm.Cond.code ({ cls := "KindPostman$Reader", name := "lays", desc := "(III)V" } : Jvm.MethodName) prog_13_method_25_code (4 : Nat) (Option.none : Option Jvm.ClassFile.FieldType)) ∈ lw_all := lw_g (lw_at lw_m4 94 rfl) rfl
theorem q957 : (Jvm.Cond.methodLink "KindPostman$Reader" (237 : Nat) ({ cls := "java/lang/Math", name := "min", desc := "(II)I" } : Jvm.MethodName)) ∈ lw_all := lw_g (lw_at lw_m4 95 rfl) rfl
theorem q2082 : (Jvm.Cond.castable "KindPostman$Reader" "java/lang/Object") ∈ lw_tbl := lw_at lw_m9 20 rfl
theorem in_X7 : ∀ w ∈ wsX70, w ∈ lw_all := lw_in wsX70 [529, 531, 533, 535, 537, 539, 541, 543, 545, 547] (by decide +kernel) (by decide +kernel)
/-! KindPostman$Fault -/
set_option maxRecDepth 100000
def RX8 : String := "KindPostman$Fault"
def TX8 : u_T := fun k => match k with
  | 0 => ("java/lang/Throwable", "cause", "Ljava/lang/Throwable;", false)
  | 1 => ("java/lang/Throwable", "stackTrace", "[Ljava/lang/StackTraceElement;", false)
  | 2 => ("java/lang/Throwable", "suppressedExceptions", "Ljava/util/List;", false)
  | 3 => ("java/lang/Throwable", "detailMessage", "Ljava/lang/String;", false)
  | 4 => ("java/lang/Throwable", "backtrace", "Ljava/lang/Object;", false)
  | 5 => ("java/lang/Throwable", "depth", "I", false)
  | 6 => ("KindPostman$Fault", "kind", "I", true)
  | _ => ("KindPostman$Fault", "place", "I", true)
def tyX8 : Nat → FieldType := fun k => match k with
  | 0 => .object "java/lang/Throwable"
  | 1 => .array (.object "java/lang/StackTraceElement")
  | 2 => .object "java/util/List"
  | 3 => .object "java/lang/String"
  | 4 => .object "java/lang/Object"
  | 5 => .int
  | 6 => .int
  | _ => .int
abbrev wsX80 : List Cond := u_ws RX8 TX8 8
theorem nmX8 : ∀ a, a < 8 → ∀ b, b < 8 → a ≠ b → (TX8 a).2.1 ≠ (TX8 b).2.1 := by decide +kernel
theorem tyX8_ok : ∀ k, k < 8 → parseFieldDescriptor (TX8 k).2.2.1 = some (tyX8 k) := by decide +kernel
abbrev cX8_init : ByteArray := prog_5_method_1_code
def yX8_init : MethodName := ⟨RX8, "<init>", "(II)V"⟩
def dkwX8_init_0 : List UInt8 := [42, 183, 0, 1, 42, 27, 181, 0, 7, 42, 28, 181, 0, 13, 177]
abbrev dktX8_init_0 : List UInt8 := dkwX8_init_0 ++ []
theorem dksX8_init_0 : cX8_init.data.toList.drop 0 = dktX8_init_0 := by decide +kernel
theorem dX8_init_0 : decode cX8_init 0 = .ok (.aload_n 0, 1) := dk_42 (dk_at dksX8_init_0 0 rfl rfl)
theorem dX8_init_1 : decode cX8_init 1 = .ok (.invokespecial 1, 3) := dk_183 0 1 (dk_at dksX8_init_0 1 rfl rfl)
theorem dX8_init_4 : decode cX8_init 4 = .ok (.aload_n 0, 1) := dk_42 (dk_at dksX8_init_0 4 rfl rfl)
theorem dX8_init_5 : decode cX8_init 5 = .ok (.iload_n 1, 1) := dk_27 (dk_at dksX8_init_0 5 rfl rfl)
theorem dX8_init_6 : decode cX8_init 6 = .ok (.putfield 7, 3) := dk_181 0 7 (dk_at dksX8_init_0 6 rfl rfl)
theorem dX8_init_9 : decode cX8_init 9 = .ok (.aload_n 0, 1) := dk_42 (dk_at dksX8_init_0 9 rfl rfl)
theorem dX8_init_10 : decode cX8_init 10 = .ok (.iload_n 2, 1) := dk_28 (dk_at dksX8_init_0 10 rfl rfl)
theorem dX8_init_11 : decode cX8_init 11 = .ok (.putfield 13, 3) := dk_181 0 13 (dk_at dksX8_init_0 11 rfl rfl)
theorem dX8_init_14 : decode cX8_init 14 = .ok (.return_, 1) := dk_177 (dk_at dksX8_init_0 14 rfl rfl)
theorem q163 : (Jvm.Cond.initialized "KindPostman$Fault") ∈ lw_all := lw_g (lw_at lw_m1 21 rfl) rfl
theorem q675 : (Jvm.Cond.instantiable "KindPostman$Fault" (8 : Nat)) ∈ lw_all := lw_g (lw_at lw_m3 53 rfl) rfl
theorem q676 : (Jvm.Cond.castable "KindPostman$Fault" "KindPostman$Fault") ∈ lw_tbl := lw_at lw_m3 54 rfl
theorem q681 : (Jvm.Cond.selects "KindPostman$Fault" ({ cls := "java/lang/Throwable", name := "fillInStackTrace", desc := "(I)Ljava/lang/Throwable;" } : Jvm.MethodName) ({ cls := "java/lang/Throwable", name := "fillInStackTrace", desc := "(I)Ljava/lang/Throwable;" } : Jvm.MethodName)) ∈ lw_all := lw_g (lw_at lw_m3 59 rfl) rfl
theorem q682 : (Jvm.Cond.selects "KindPostman$Fault" ({ cls := "java/lang/Throwable", name := "fillInStackTrace", desc := "()Ljava/lang/Throwable;" } : Jvm.MethodName) ({ cls := "java/lang/Throwable", name := "fillInStackTrace", desc := "()Ljava/lang/Throwable;" } : Jvm.MethodName)) ∈ lw_all := lw_g (lw_at lw_m3 60 rfl) rfl
theorem q683 : (Jvm.Cond.lays "KindPostman$Fault" "java/lang/Throwable" "cause" "Ljava/lang/Throwable;") ∈ lw_all := lw_g (lw_at lw_m3 61 rfl) rfl
theorem q685 : (Jvm.Cond.lays "KindPostman$Fault" "java/lang/Throwable" "stackTrace" "[Ljava/lang/StackTraceElement;") ∈ lw_all := lw_g (lw_at lw_m3 63 rfl) rfl
theorem q687 : (Jvm.Cond.lays "KindPostman$Fault" "java/lang/Throwable" "suppressedExceptions" "Ljava/util/List;") ∈ lw_all := lw_g (lw_at lw_m3 65 rfl) rfl
theorem q689 : (Jvm.Cond.lays "KindPostman$Fault" "java/lang/Throwable" "detailMessage" "Ljava/lang/String;") ∈ lw_all := lw_g (lw_at lw_m3 67 rfl) rfl
theorem q691 : (Jvm.Cond.lays "KindPostman$Fault" "java/lang/Throwable" "backtrace" "Ljava/lang/Object;") ∈ lw_all := lw_g (lw_at lw_m3 69 rfl) rfl
theorem q712 : (Jvm.Cond.instanceMethod ({ cls := "KindPostman$Fault", name := "<init>", desc := "(II)V" } : Jvm.MethodName)) ∈ lw_all := lw_g (lw_at lw_m3 90 rfl) rfl
theorem q713 : (Jvm.Cond.code ({ cls := "KindPostman$Fault", name := "<init>", desc := "(II)V" } : Jvm.MethodName) prog_5_method_1_code (3 : Nat) (Option.none : Option Jvm.ClassFile.FieldType)) ∈ lw_all := lw_g (lw_at lw_m3 91 rfl) rfl
theorem q714 : (Jvm.Cond.methodLink "KindPostman$Fault" (1 : Nat) ({ cls := "java/lang/Exception", name := "<init>", desc := "()V" } : Jvm.MethodName)) ∈ lw_all := lw_g (lw_at lw_m3 92 rfl) rfl
theorem q718 : (Jvm.Cond.fieldLink "KindPostman$Fault" (7 : Nat) "KindPostman$Fault" "kind" "I") ∈ lw_all := lw_g (lw_at lw_m3 96 rfl) rfl
theorem q720 : (Jvm.Cond.fieldLink "KindPostman$Fault" (13 : Nat) "KindPostman$Fault" "place" "I") ∈ lw_all := lw_g (lw_at lw_m3 98 rfl) rfl
theorem q726 : (Jvm.Cond.laysFinal "KindPostman$Fault" "KindPostman$Fault" "kind" "I") ∈ lw_all := lw_g (lw_at lw_m3 104 rfl) rfl
theorem q727 : (Jvm.Cond.soleField "KindPostman$Fault" "kind") ∈ lw_all := lw_g (lw_at lw_m3 105 rfl) rfl
theorem q728 : (Jvm.Cond.laysFinal "KindPostman$Fault" "KindPostman$Fault" "place" "I") ∈ lw_all := lw_g (lw_at lw_m3 106 rfl) rfl
theorem q729 : (Jvm.Cond.soleField "KindPostman$Fault" "place") ∈ lw_all := lw_g (lw_at lw_m3 107 rfl) rfl
theorem q734 : (Jvm.Cond.lays "KindPostman$Fault" "java/lang/Throwable" "depth" "I") ∈ lw_all := lw_g (lw_at lw_m3 112 rfl) rfl
theorem q737 : (Jvm.Cond.superclass "KindPostman$Fault" "java/lang/Exception") ∈ lw_all := lw_g (lw_at lw_m3 115 rfl) rfl
theorem q881 : (Jvm.Cond.selects "KindPostman$Fault" ({ cls := "java/lang/Object", name := "getClass", desc := "()Ljava/lang/Class;" } : Jvm.MethodName) ({ cls := "java/lang/Object", name := "getClass", desc := "()Ljava/lang/Class;" } : Jvm.MethodName)) ∈ lw_all := lw_g (lw_at lw_m4 19 rfl) rfl
theorem q2083 : (Jvm.Cond.castable "KindPostman$Fault" "java/lang/Object") ∈ lw_tbl := lw_at lw_m9 21 rfl
theorem in_X8 : ∀ w ∈ wsX80, w ∈ lw_all := lw_in wsX80 [683, 685, 687, 689, 691, 734, 726, 728] (by decide +kernel) (by decide +kernel)
/-! KindPostman$Term -/
set_option maxRecDepth 100000
def RX9 : String := "KindPostman$Term"
abbrev cX9_init : ByteArray := prog_15_method_1_code
def yX9_init : MethodName := ⟨RX9, "<init>", "()V"⟩
theorem dX9_init_0 : decode cX9_init 0 = .ok (.aload_n 0, 1) := by decide +kernel
theorem dX9_init_1 : decode cX9_init 1 = .ok (.invokespecial 1, 3) := by decide +kernel
theorem dX9_init_4 : decode cX9_init 4 = .ok (.return_, 1) := by decide +kernel
theorem q164 : (Jvm.Cond.initialized "KindPostman$Term") ∈ lw_all := lw_g (lw_at lw_m1 22 rfl) rfl
theorem q764 : (Jvm.Cond.instanceMethod ({ cls := "KindPostman$Term", name := "<init>", desc := "()V" } : Jvm.MethodName)) ∈ lw_all := lw_g (lw_at lw_m3 142 rfl) rfl
theorem q765 : (Jvm.Cond.code ({ cls := "KindPostman$Term", name := "<init>", desc := "()V" } : Jvm.MethodName) prog_15_method_1_code (1 : Nat) (Option.none : Option Jvm.ClassFile.FieldType)) ∈ lw_all := lw_g (lw_at lw_m3 143 rfl) rfl
theorem q766 : (Jvm.Cond.methodLink "KindPostman$Term" (1 : Nat) ({ cls := "java/lang/Object", name := "<init>", desc := "()V" } : Jvm.MethodName)) ∈ lw_all := lw_g (lw_at lw_m3 144 rfl) rfl
theorem q1074 : (Jvm.Cond.declares ({ cls := "KindPostman$Term", name := "of", desc := "(LKindPostman$Asker;)I" } : Jvm.MethodName)) ∈ lw_tbl := lw_at lw_m4 212 rfl
theorem q1075 : (Jvm.Cond.sameMethod "KindPostman$Term" "KindPostman$Term" "of" "(LKindPostman$Asker;)I") ∈ lw_all := lw_g (lw_at lw_m4 213 rfl) rfl
/-! KindPostman$Fixed -/
set_option maxRecDepth 100000
def RX10 : String := "KindPostman$Fixed"
def TX10 : u_T := fun k => match k with
  | _ => ("KindPostman$Fixed", "value", "I", true)
def tyX10 : Nat → FieldType := fun k => match k with
  | _ => .int
abbrev wsX100 : List Cond := u_ws RX10 TX10 1
theorem nmX10 : ∀ a, a < 1 → ∀ b, b < 1 → a ≠ b → (TX10 a).2.1 ≠ (TX10 b).2.1 := by decide +kernel
theorem tyX10_ok : ∀ k, k < 1 → parseFieldDescriptor (TX10 k).2.2.1 = some (tyX10 k) := by decide +kernel
abbrev cX10_init : ByteArray := prog_6_method_1_code
def yX10_init : MethodName := ⟨RX10, "<init>", "(I)V"⟩
def dkwX10_init_0 : List UInt8 := [42, 183, 0, 1, 42, 27, 181, 0, 7, 177]
abbrev dktX10_init_0 : List UInt8 := dkwX10_init_0 ++ []
theorem dksX10_init_0 : cX10_init.data.toList.drop 0 = dktX10_init_0 := by decide +kernel
theorem dX10_init_0 : decode cX10_init 0 = .ok (.aload_n 0, 1) := dk_42 (dk_at dksX10_init_0 0 rfl rfl)
theorem dX10_init_1 : decode cX10_init 1 = .ok (.invokespecial 1, 3) := dk_183 0 1 (dk_at dksX10_init_0 1 rfl rfl)
theorem dX10_init_4 : decode cX10_init 4 = .ok (.aload_n 0, 1) := dk_42 (dk_at dksX10_init_0 4 rfl rfl)
theorem dX10_init_5 : decode cX10_init 5 = .ok (.iload_n 1, 1) := dk_27 (dk_at dksX10_init_0 5 rfl rfl)
theorem dX10_init_6 : decode cX10_init 6 = .ok (.putfield 7, 3) := dk_181 0 7 (dk_at dksX10_init_0 6 rfl rfl)
theorem dX10_init_9 : decode cX10_init 9 = .ok (.return_, 1) := dk_177 (dk_at dksX10_init_0 9 rfl rfl)
abbrev cX10_of : ByteArray := prog_6_method_2_code
def yX10_of : MethodName := ⟨RX10, "of", "(LKindPostman$Asker;)I"⟩
theorem dX10_of_0 : decode cX10_of 0 = .ok (.aload_n 0, 1) := by decide +kernel
theorem dX10_of_1 : decode cX10_of 1 = .ok (.getfield 7, 3) := by decide +kernel
theorem dX10_of_4 : decode cX10_of 4 = .ok (.ireturn, 1) := by decide +kernel
theorem q165 : (Jvm.Cond.initialized "KindPostman$Fixed") ∈ lw_all := lw_g (lw_at lw_m1 23 rfl) rfl
theorem q755 : (Jvm.Cond.instantiable "KindPostman$Fixed" (1 : Nat)) ∈ lw_all := lw_g (lw_at lw_m3 133 rfl) rfl
theorem q761 : (Jvm.Cond.instanceMethod ({ cls := "KindPostman$Fixed", name := "<init>", desc := "(I)V" } : Jvm.MethodName)) ∈ lw_all := lw_g (lw_at lw_m3 139 rfl) rfl
theorem q762 : (Jvm.Cond.code ({ cls := "KindPostman$Fixed", name := "<init>", desc := "(I)V" } : Jvm.MethodName) prog_6_method_1_code (2 : Nat) (Option.none : Option Jvm.ClassFile.FieldType)) ∈ lw_all := lw_g (lw_at lw_m3 140 rfl) rfl
theorem q763 : (Jvm.Cond.methodLinkNest "KindPostman$Fixed" (1 : Nat) ({ cls := "KindPostman$Term", name := "<init>", desc := "()V" } : Jvm.MethodName) "KindPostman") ∈ lw_tbl := lw_at lw_m3 141 rfl
theorem q767 : (Jvm.Cond.fieldLink "KindPostman$Fixed" (7 : Nat) "KindPostman$Fixed" "value" "I") ∈ lw_all := lw_g (lw_at lw_m3 145 rfl) rfl
theorem q768 : (Jvm.Cond.laysFinal "KindPostman$Fixed" "KindPostman$Fixed" "value" "I") ∈ lw_all := lw_g (lw_at lw_m3 146 rfl) rfl
theorem q769 : (Jvm.Cond.soleField "KindPostman$Fixed" "value") ∈ lw_all := lw_g (lw_at lw_m3 147 rfl) rfl
theorem q770 : (Jvm.Cond.superclass "KindPostman$Fixed" "KindPostman$Term") ∈ lw_all := lw_g (lw_at lw_m3 148 rfl) rfl
theorem q882 : (Jvm.Cond.selects "KindPostman$Fixed" ({ cls := "java/lang/Object", name := "getClass", desc := "()Ljava/lang/Class;" } : Jvm.MethodName) ({ cls := "java/lang/Object", name := "getClass", desc := "()Ljava/lang/Class;" } : Jvm.MethodName)) ∈ lw_all := lw_g (lw_at lw_m4 20 rfl) rfl
theorem q1076 : (Jvm.Cond.selects "KindPostman$Fixed" ({ cls := "KindPostman$Term", name := "of", desc := "(LKindPostman$Asker;)I" } : Jvm.MethodName) ({ cls := "KindPostman$Fixed", name := "of", desc := "(LKindPostman$Asker;)I" } : Jvm.MethodName)) ∈ lw_all := lw_g (lw_at lw_m4 214 rfl) rfl
theorem q1077 : (Jvm.Cond.instanceMethod ({ cls := "KindPostman$Fixed", name := "of", desc := "(LKindPostman$Asker;)I" } : Jvm.MethodName)) ∈ lw_all := lw_g (lw_at lw_m4 215 rfl) rfl
theorem q1078 : (Jvm.Cond.code ({ cls := "KindPostman$Fixed", name := "of", desc := "(LKindPostman$Asker;)I" } : Jvm.MethodName) prog_6_method_2_code (2 : Nat) (Option.some Jvm.ClassFile.FieldType.int)) ∈ lw_all := lw_g (lw_at lw_m4 216 rfl) rfl
theorem q2084 : (Jvm.Cond.castable "KindPostman$Fixed" "java/lang/Object") ∈ lw_tbl := lw_at lw_m9 22 rfl
theorem in_X10 : ∀ w ∈ wsX100, w ∈ lw_all := lw_in wsX100 [768] (by decide +kernel) (by decide +kernel)
/-! KindPostman$Known -/
set_option maxRecDepth 100000
def RX11 : String := "KindPostman$Known"
def TX11 : u_T := fun k => match k with
  | _ => ("KindPostman$Known", "what", "I", true)
def tyX11 : Nat → FieldType := fun k => match k with
  | _ => .int
abbrev wsX110 : List Cond := u_ws RX11 TX11 1
theorem nmX11 : ∀ a, a < 1 → ∀ b, b < 1 → a ≠ b → (TX11 a).2.1 ≠ (TX11 b).2.1 := by decide +kernel
theorem tyX11_ok : ∀ k, k < 1 → parseFieldDescriptor (TX11 k).2.2.1 = some (tyX11 k) := by decide +kernel
abbrev cX11_init : ByteArray := prog_8_method_1_code
def yX11_init : MethodName := ⟨RX11, "<init>", "(I)V"⟩
def dkwX11_init_0 : List UInt8 := [42, 183, 0, 1, 42, 27, 181, 0, 7, 177]
abbrev dktX11_init_0 : List UInt8 := dkwX11_init_0 ++ []
theorem dksX11_init_0 : cX11_init.data.toList.drop 0 = dktX11_init_0 := by decide +kernel
theorem dX11_init_0 : decode cX11_init 0 = .ok (.aload_n 0, 1) := dk_42 (dk_at dksX11_init_0 0 rfl rfl)
theorem dX11_init_1 : decode cX11_init 1 = .ok (.invokespecial 1, 3) := dk_183 0 1 (dk_at dksX11_init_0 1 rfl rfl)
theorem dX11_init_4 : decode cX11_init 4 = .ok (.aload_n 0, 1) := dk_42 (dk_at dksX11_init_0 4 rfl rfl)
theorem dX11_init_5 : decode cX11_init 5 = .ok (.iload_n 1, 1) := dk_27 (dk_at dksX11_init_0 5 rfl rfl)
theorem dX11_init_6 : decode cX11_init 6 = .ok (.putfield 7, 3) := dk_181 0 7 (dk_at dksX11_init_0 6 rfl rfl)
theorem dX11_init_9 : decode cX11_init 9 = .ok (.return_, 1) := dk_177 (dk_at dksX11_init_0 9 rfl rfl)
abbrev cX11_of : ByteArray := prog_8_method_2_code
def yX11_of : MethodName := ⟨RX11, "of", "(LKindPostman$Asker;)I"⟩
def dkwX11_of_0 : List UInt8 := [43, 42, 180, 0, 7, 185, 0, 13, 2, 0, 172]
abbrev dktX11_of_0 : List UInt8 := dkwX11_of_0 ++ []
theorem dksX11_of_0 : cX11_of.data.toList.drop 0 = dktX11_of_0 := by decide +kernel
theorem dX11_of_0 : decode cX11_of 0 = .ok (.aload_n 1, 1) := dk_43 (dk_at dksX11_of_0 0 rfl rfl)
theorem dX11_of_1 : decode cX11_of 1 = .ok (.aload_n 0, 1) := dk_42 (dk_at dksX11_of_0 1 rfl rfl)
theorem dX11_of_2 : decode cX11_of 2 = .ok (.getfield 7, 3) := dk_180 0 7 (dk_at dksX11_of_0 2 rfl rfl)
theorem dX11_of_5 : decode cX11_of 5 = .ok (.invokeinterface 13 2, 5) := by decide +kernel
theorem dX11_of_10 : decode cX11_of 10 = .ok (.ireturn, 1) := dk_172 (dk_at dksX11_of_0 10 rfl rfl)
theorem q166 : (Jvm.Cond.initialized "KindPostman$Known") ∈ lw_all := lw_g (lw_at lw_m1 24 rfl) rfl
theorem q772 : (Jvm.Cond.instantiable "KindPostman$Known" (1 : Nat)) ∈ lw_all := lw_g (lw_at lw_m3 150 rfl) rfl
theorem q774 : (Jvm.Cond.instanceMethod ({ cls := "KindPostman$Known", name := "<init>", desc := "(I)V" } : Jvm.MethodName)) ∈ lw_all := lw_g (lw_at lw_m3 152 rfl) rfl
theorem q775 : (Jvm.Cond.code ({ cls := "KindPostman$Known", name := "<init>", desc := "(I)V" } : Jvm.MethodName) prog_8_method_1_code (2 : Nat) (Option.none : Option Jvm.ClassFile.FieldType)) ∈ lw_all := lw_g (lw_at lw_m3 153 rfl) rfl
theorem q776 : (Jvm.Cond.methodLinkNest "KindPostman$Known" (1 : Nat) ({ cls := "KindPostman$Term", name := "<init>", desc := "()V" } : Jvm.MethodName) "KindPostman") ∈ lw_tbl := lw_at lw_m3 154 rfl
theorem q777 : (Jvm.Cond.fieldLink "KindPostman$Known" (7 : Nat) "KindPostman$Known" "what" "I") ∈ lw_all := lw_g (lw_at lw_m3 155 rfl) rfl
theorem q778 : (Jvm.Cond.laysFinal "KindPostman$Known" "KindPostman$Known" "what" "I") ∈ lw_all := lw_g (lw_at lw_m3 156 rfl) rfl
theorem q779 : (Jvm.Cond.soleField "KindPostman$Known" "what") ∈ lw_all := lw_g (lw_at lw_m3 157 rfl) rfl
theorem q780 : (Jvm.Cond.superclass "KindPostman$Known" "KindPostman$Term") ∈ lw_all := lw_g (lw_at lw_m3 158 rfl) rfl
theorem q884 : (Jvm.Cond.selects "KindPostman$Known" ({ cls := "java/lang/Object", name := "getClass", desc := "()Ljava/lang/Class;" } : Jvm.MethodName) ({ cls := "java/lang/Object", name := "getClass", desc := "()Ljava/lang/Class;" } : Jvm.MethodName)) ∈ lw_all := lw_g (lw_at lw_m4 22 rfl) rfl
theorem q1083 : (Jvm.Cond.instanceMethod ({ cls := "KindPostman$Known", name := "of", desc := "(LKindPostman$Asker;)I" } : Jvm.MethodName)) ∈ lw_all := lw_g (lw_at lw_m4 221 rfl) rfl
theorem q1084 : (Jvm.Cond.code ({ cls := "KindPostman$Known", name := "of", desc := "(LKindPostman$Asker;)I" } : Jvm.MethodName) prog_8_method_2_code (2 : Nat) (Option.some Jvm.ClassFile.FieldType.int)) ∈ lw_all := lw_g (lw_at lw_m4 222 rfl) rfl
theorem q1085 : (Jvm.Cond.interfaceEntry "KindPostman$Known" (13 : Nat)) ∈ lw_tbl := lw_at lw_m4 223 rfl
theorem q1086 : (Jvm.Cond.methodLink "KindPostman$Known" (13 : Nat) ({ cls := "KindPostman$Asker", name := "fact", desc := "(I)I" } : Jvm.MethodName)) ∈ lw_all := lw_g (lw_at lw_m4 224 rfl) rfl
theorem q1098 : (Jvm.Cond.selects "KindPostman$Known" ({ cls := "KindPostman$Term", name := "of", desc := "(LKindPostman$Asker;)I" } : Jvm.MethodName) ({ cls := "KindPostman$Known", name := "of", desc := "(LKindPostman$Asker;)I" } : Jvm.MethodName)) ∈ lw_all := lw_g (lw_at lw_m4 236 rfl) rfl
theorem q2085 : (Jvm.Cond.castable "KindPostman$Known" "java/lang/Object") ∈ lw_tbl := lw_at lw_m9 23 rfl
theorem in_X11 : ∀ w ∈ wsX110, w ∈ lw_all := lw_in wsX110 [778] (by decide +kernel) (by decide +kernel)
/-! KindPostman$Joined -/
set_option maxRecDepth 100000
def RX12 : String := "KindPostman$Joined"
def TX12 : u_T := fun k => match k with
  | 0 => ("KindPostman$Joined", "left", "LKindPostman$Term;", true)
  | 1 => ("KindPostman$Joined", "right", "LKindPostman$Term;", true)
  | _ => ("KindPostman$Joined", "how", "I", true)
def tyX12 : Nat → FieldType := fun k => match k with
  | 0 => .object "KindPostman$Term"
  | 1 => .object "KindPostman$Term"
  | _ => .int
abbrev wsX120 : List Cond := u_ws RX12 TX12 3
theorem nmX12 : ∀ a, a < 3 → ∀ b, b < 3 → a ≠ b → (TX12 a).2.1 ≠ (TX12 b).2.1 := by decide +kernel
theorem tyX12_ok : ∀ k, k < 3 → parseFieldDescriptor (TX12 k).2.2.1 = some (tyX12 k) := by decide +kernel
abbrev cX12_init : ByteArray := prog_7_method_1_code
def yX12_init : MethodName := ⟨RX12, "<init>", "(LKindPostman$Term;ILKindPostman$Term;)V"⟩
def dkwX12_init_0 : List UInt8 := [42, 183, 0, 3, 42, 43, 181, 0, 9, 42, 28, 181, 0, 15, 42, 45, 181, 0, 19, 177]
abbrev dktX12_init_0 : List UInt8 := dkwX12_init_0 ++ []
theorem dksX12_init_0 : cX12_init.data.toList.drop 0 = dktX12_init_0 := by decide +kernel
theorem dX12_init_0 : decode cX12_init 0 = .ok (.aload_n 0, 1) := dk_42 (dk_at dksX12_init_0 0 rfl rfl)
theorem dX12_init_1 : decode cX12_init 1 = .ok (.invokespecial 3, 3) := dk_183 0 3 (dk_at dksX12_init_0 1 rfl rfl)
theorem dX12_init_4 : decode cX12_init 4 = .ok (.aload_n 0, 1) := dk_42 (dk_at dksX12_init_0 4 rfl rfl)
theorem dX12_init_5 : decode cX12_init 5 = .ok (.aload_n 1, 1) := dk_43 (dk_at dksX12_init_0 5 rfl rfl)
theorem dX12_init_6 : decode cX12_init 6 = .ok (.putfield 9, 3) := dk_181 0 9 (dk_at dksX12_init_0 6 rfl rfl)
theorem dX12_init_9 : decode cX12_init 9 = .ok (.aload_n 0, 1) := dk_42 (dk_at dksX12_init_0 9 rfl rfl)
theorem dX12_init_10 : decode cX12_init 10 = .ok (.iload_n 2, 1) := dk_28 (dk_at dksX12_init_0 10 rfl rfl)
theorem dX12_init_11 : decode cX12_init 11 = .ok (.putfield 15, 3) := dk_181 0 15 (dk_at dksX12_init_0 11 rfl rfl)
theorem dX12_init_14 : decode cX12_init 14 = .ok (.aload_n 0, 1) := dk_42 (dk_at dksX12_init_0 14 rfl rfl)
theorem dX12_init_15 : decode cX12_init 15 = .ok (.aload_n 3, 1) := dk_45 (dk_at dksX12_init_0 15 rfl rfl)
theorem dX12_init_16 : decode cX12_init 16 = .ok (.putfield 19, 3) := dk_181 0 19 (dk_at dksX12_init_0 16 rfl rfl)
theorem dX12_init_19 : decode cX12_init 19 = .ok (.return_, 1) := dk_177 (dk_at dksX12_init_0 19 rfl rfl)
abbrev cX12_of : ByteArray := prog_7_method_2_code
def yX12_of : MethodName := ⟨RX12, "of", "(LKindPostman$Asker;)I"⟩
def dkwX12_of_4 : List UInt8 := [167, 0, 4, 3, 172, 28, 29, 126, 172, 28, 29, 128, 172]
abbrev dktX12_of_4 : List UInt8 := dkwX12_of_4 ++ []
def dkwX12_of_3 : List UInt8 := [167, 0, 4, 3, 172, 28, 29, 160, 0, 7, 4, 167, 0, 4, 3, 172, 28, 29, 164, 0, 7, 4]
abbrev dktX12_of_3 : List UInt8 := dkwX12_of_3 ++ dktX12_of_4
def dkwX12_of_2 : List UInt8 := [28, 29, 96, 172, 28, 29, 100, 172, 28, 29, 104, 172, 28, 29, 108, 172, 28, 29, 162, 0, 7, 4]
abbrev dktX12_of_2 : List UInt8 := dkwX12_of_2 ++ dktX12_of_3
def dkwX12_of_1 : List UInt8 := [171, 0, 0, 0, 0, 127, 0, 0, 0, 8, 0, 0, 0, 5, 0, 0, 0, 123, 0, 0, 0, 42, 0, 0, 0, 82, 0, 0, 0, 43, 0, 0, 0, 74, 0, 0, 0, 45, 0, 0, 0, 78, 0, 0, 0, 47, 0, 0, 0, 86, 0, 0, 0, 60, 0, 0, 0, 90, 0, 0, 0, 61, 0, 0, 0, 101, 0, 0, 0, 62, 0, 0, 0, 112]
abbrev dktX12_of_1 : List UInt8 := dkwX12_of_1 ++ dktX12_of_2
def dkwX12_of_0 : List UInt8 := [42, 180, 0, 9, 43, 182, 0, 22, 61, 42, 180, 0, 19, 43, 182, 0, 22, 62, 42, 180, 0, 15]
abbrev dktX12_of_0 : List UInt8 := dkwX12_of_0 ++ dktX12_of_1
theorem dksX12_of_0 : cX12_of.data.toList.drop 0 = dktX12_of_0 := by decide +kernel
theorem dksX12_of_1 : cX12_of.data.toList.drop 22 = dktX12_of_1 := dk_seg dksX12_of_0 22 rfl rfl
theorem dksX12_of_2 : cX12_of.data.toList.drop 96 = dktX12_of_2 := dk_seg dksX12_of_1 74 rfl rfl
theorem dksX12_of_3 : cX12_of.data.toList.drop 118 = dktX12_of_3 := dk_seg dksX12_of_2 22 rfl rfl
theorem dksX12_of_4 : cX12_of.data.toList.drop 140 = dktX12_of_4 := dk_seg dksX12_of_3 22 rfl rfl
theorem dX12_of_0 : decode cX12_of 0 = .ok (.aload_n 0, 1) := dk_42 (dk_at dksX12_of_0 0 rfl rfl)
theorem dX12_of_1 : decode cX12_of 1 = .ok (.getfield 9, 3) := dk_180 0 9 (dk_at dksX12_of_0 1 rfl rfl)
theorem dX12_of_4 : decode cX12_of 4 = .ok (.aload_n 1, 1) := dk_43 (dk_at dksX12_of_0 4 rfl rfl)
theorem dX12_of_5 : decode cX12_of 5 = .ok (.invokevirtual 22, 3) := dk_182 0 22 (dk_at dksX12_of_0 5 rfl rfl)
theorem dX12_of_8 : decode cX12_of 8 = .ok (.istore_n 2, 1) := dk_61 (dk_at dksX12_of_0 8 rfl rfl)
theorem dX12_of_9 : decode cX12_of 9 = .ok (.aload_n 0, 1) := dk_42 (dk_at dksX12_of_0 9 rfl rfl)
theorem dX12_of_10 : decode cX12_of 10 = .ok (.getfield 19, 3) := dk_180 0 19 (dk_at dksX12_of_0 10 rfl rfl)
theorem dX12_of_13 : decode cX12_of 13 = .ok (.aload_n 1, 1) := dk_43 (dk_at dksX12_of_0 13 rfl rfl)
theorem dX12_of_14 : decode cX12_of 14 = .ok (.invokevirtual 22, 3) := dk_182 0 22 (dk_at dksX12_of_0 14 rfl rfl)
theorem dX12_of_17 : decode cX12_of 17 = .ok (.istore_n 3, 1) := dk_62 (dk_at dksX12_of_0 17 rfl rfl)
theorem dX12_of_18 : decode cX12_of 18 = .ok (.aload_n 0, 1) := dk_42 (dk_at dksX12_of_0 18 rfl rfl)
theorem dX12_of_19 : decode cX12_of 19 = .ok (.getfield 15, 3) := dk_180 0 15 (dk_at dksX12_of_0 19 rfl rfl)
theorem dX12_of_22 : decode cX12_of 22 = .ok (.lookupswitch 127 #[(5, 123), (42, 82), (43, 74), (45, 78), (47, 86), (60, 90), (61, 101), (62, 112)], 74) := by decide +kernel
theorem dX12_of_96 : decode cX12_of 96 = .ok (.iload_n 2, 1) := dk_28 (dk_at dksX12_of_2 0 rfl rfl)
theorem dX12_of_97 : decode cX12_of 97 = .ok (.iload_n 3, 1) := dk_29 (dk_at dksX12_of_2 1 rfl rfl)
theorem dX12_of_98 : decode cX12_of 98 = .ok (.iadd, 1) := dk_96 (dk_at dksX12_of_2 2 rfl rfl)
theorem dX12_of_99 : decode cX12_of 99 = .ok (.ireturn, 1) := dk_172 (dk_at dksX12_of_2 3 rfl rfl)
theorem dX12_of_100 : decode cX12_of 100 = .ok (.iload_n 2, 1) := dk_28 (dk_at dksX12_of_2 4 rfl rfl)
theorem dX12_of_101 : decode cX12_of 101 = .ok (.iload_n 3, 1) := dk_29 (dk_at dksX12_of_2 5 rfl rfl)
theorem dX12_of_102 : decode cX12_of 102 = .ok (.isub, 1) := dk_100 (dk_at dksX12_of_2 6 rfl rfl)
theorem dX12_of_103 : decode cX12_of 103 = .ok (.ireturn, 1) := dk_172 (dk_at dksX12_of_2 7 rfl rfl)
theorem dX12_of_104 : decode cX12_of 104 = .ok (.iload_n 2, 1) := dk_28 (dk_at dksX12_of_2 8 rfl rfl)
theorem dX12_of_105 : decode cX12_of 105 = .ok (.iload_n 3, 1) := dk_29 (dk_at dksX12_of_2 9 rfl rfl)
theorem dX12_of_106 : decode cX12_of 106 = .ok (.imul, 1) := dk_104 (dk_at dksX12_of_2 10 rfl rfl)
theorem dX12_of_107 : decode cX12_of 107 = .ok (.ireturn, 1) := dk_172 (dk_at dksX12_of_2 11 rfl rfl)
theorem dX12_of_108 : decode cX12_of 108 = .ok (.iload_n 2, 1) := dk_28 (dk_at dksX12_of_2 12 rfl rfl)
theorem dX12_of_109 : decode cX12_of 109 = .ok (.iload_n 3, 1) := dk_29 (dk_at dksX12_of_2 13 rfl rfl)
theorem dX12_of_110 : decode cX12_of 110 = .ok (.idiv, 1) := dk_108 (dk_at dksX12_of_2 14 rfl rfl)
theorem dX12_of_111 : decode cX12_of 111 = .ok (.ireturn, 1) := dk_172 (dk_at dksX12_of_2 15 rfl rfl)
theorem dX12_of_112 : decode cX12_of 112 = .ok (.iload_n 2, 1) := dk_28 (dk_at dksX12_of_2 16 rfl rfl)
theorem dX12_of_113 : decode cX12_of 113 = .ok (.iload_n 3, 1) := dk_29 (dk_at dksX12_of_2 17 rfl rfl)
theorem dX12_of_114 : decode cX12_of 114 = .ok (.if_icmp .ge 7, 3) := dk_162 0 7 (dk_at dksX12_of_2 18 rfl rfl)
theorem dX12_of_117 : decode cX12_of 117 = .ok (.iconst 1, 1) := dk_4 (dk_at dksX12_of_2 21 rfl rfl)
theorem dX12_of_118 : decode cX12_of 118 = .ok (.goto 4, 3) := dk_167 0 4 (dk_at dksX12_of_3 0 rfl rfl)
theorem dX12_of_121 : decode cX12_of 121 = .ok (.iconst 0, 1) := dk_3 (dk_at dksX12_of_3 3 rfl rfl)
theorem dX12_of_122 : decode cX12_of 122 = .ok (.ireturn, 1) := dk_172 (dk_at dksX12_of_3 4 rfl rfl)
theorem dX12_of_123 : decode cX12_of 123 = .ok (.iload_n 2, 1) := dk_28 (dk_at dksX12_of_3 5 rfl rfl)
theorem dX12_of_124 : decode cX12_of 124 = .ok (.iload_n 3, 1) := dk_29 (dk_at dksX12_of_3 6 rfl rfl)
theorem dX12_of_125 : decode cX12_of 125 = .ok (.if_icmp .ne 7, 3) := dk_160 0 7 (dk_at dksX12_of_3 7 rfl rfl)
theorem dX12_of_128 : decode cX12_of 128 = .ok (.iconst 1, 1) := dk_4 (dk_at dksX12_of_3 10 rfl rfl)
theorem dX12_of_129 : decode cX12_of 129 = .ok (.goto 4, 3) := dk_167 0 4 (dk_at dksX12_of_3 11 rfl rfl)
theorem dX12_of_132 : decode cX12_of 132 = .ok (.iconst 0, 1) := dk_3 (dk_at dksX12_of_3 14 rfl rfl)
theorem dX12_of_133 : decode cX12_of 133 = .ok (.ireturn, 1) := dk_172 (dk_at dksX12_of_3 15 rfl rfl)
theorem dX12_of_134 : decode cX12_of 134 = .ok (.iload_n 2, 1) := dk_28 (dk_at dksX12_of_3 16 rfl rfl)
theorem dX12_of_135 : decode cX12_of 135 = .ok (.iload_n 3, 1) := dk_29 (dk_at dksX12_of_3 17 rfl rfl)
theorem dX12_of_136 : decode cX12_of 136 = .ok (.if_icmp .le 7, 3) := dk_164 0 7 (dk_at dksX12_of_3 18 rfl rfl)
theorem dX12_of_139 : decode cX12_of 139 = .ok (.iconst 1, 1) := dk_4 (dk_at dksX12_of_3 21 rfl rfl)
theorem dX12_of_140 : decode cX12_of 140 = .ok (.goto 4, 3) := dk_167 0 4 (dk_at dksX12_of_4 0 rfl rfl)
theorem dX12_of_143 : decode cX12_of 143 = .ok (.iconst 0, 1) := dk_3 (dk_at dksX12_of_4 3 rfl rfl)
theorem dX12_of_144 : decode cX12_of 144 = .ok (.ireturn, 1) := dk_172 (dk_at dksX12_of_4 4 rfl rfl)
theorem dX12_of_145 : decode cX12_of 145 = .ok (.iload_n 2, 1) := dk_28 (dk_at dksX12_of_4 5 rfl rfl)
theorem dX12_of_146 : decode cX12_of 146 = .ok (.iload_n 3, 1) := dk_29 (dk_at dksX12_of_4 6 rfl rfl)
theorem dX12_of_147 : decode cX12_of 147 = .ok (.iand, 1) := dk_126 (dk_at dksX12_of_4 7 rfl rfl)
theorem dX12_of_148 : decode cX12_of 148 = .ok (.ireturn, 1) := dk_172 (dk_at dksX12_of_4 8 rfl rfl)
theorem dX12_of_149 : decode cX12_of 149 = .ok (.iload_n 2, 1) := dk_28 (dk_at dksX12_of_4 9 rfl rfl)
theorem dX12_of_150 : decode cX12_of 150 = .ok (.iload_n 3, 1) := dk_29 (dk_at dksX12_of_4 10 rfl rfl)
theorem dX12_of_151 : decode cX12_of 151 = .ok (.ior, 1) := dk_128 (dk_at dksX12_of_4 11 rfl rfl)
theorem dX12_of_152 : decode cX12_of 152 = .ok (.ireturn, 1) := dk_172 (dk_at dksX12_of_4 12 rfl rfl)
theorem q167 : (Jvm.Cond.initialized "KindPostman$Joined") ∈ lw_all := lw_g (lw_at lw_m1 25 rfl) rfl
theorem q782 : (Jvm.Cond.instantiable "KindPostman$Joined" (3 : Nat)) ∈ lw_all := lw_g (lw_at lw_m3 160 rfl) rfl
theorem q784 : (Jvm.Cond.instanceMethod ({ cls := "KindPostman$Joined", name := "<init>", desc := "(LKindPostman$Term;ILKindPostman$Term;)V" } : Jvm.MethodName)) ∈ lw_all := lw_g (lw_at lw_m3 162 rfl) rfl
theorem q785 : (Jvm.Cond.code ({ cls := "KindPostman$Joined", name := "<init>", desc := "(LKindPostman$Term;ILKindPostman$Term;)V" } : Jvm.MethodName) prog_7_method_1_code (4 : Nat) (Option.none : Option Jvm.ClassFile.FieldType)) ∈ lw_all := lw_g (lw_at lw_m3 163 rfl) rfl
theorem q786 : (Jvm.Cond.methodLinkNest "KindPostman$Joined" (3 : Nat) ({ cls := "KindPostman$Term", name := "<init>", desc := "()V" } : Jvm.MethodName) "KindPostman") ∈ lw_tbl := lw_at lw_m3 164 rfl
theorem q787 : (Jvm.Cond.fieldLink "KindPostman$Joined" (9 : Nat) "KindPostman$Joined" "left" "LKindPostman$Term;") ∈ lw_all := lw_g (lw_at lw_m3 165 rfl) rfl
theorem q788 : (Jvm.Cond.fieldLink "KindPostman$Joined" (19 : Nat) "KindPostman$Joined" "right" "LKindPostman$Term;") ∈ lw_all := lw_g (lw_at lw_m3 166 rfl) rfl
theorem q789 : (Jvm.Cond.fieldLink "KindPostman$Joined" (15 : Nat) "KindPostman$Joined" "how" "I") ∈ lw_all := lw_g (lw_at lw_m3 167 rfl) rfl
theorem q790 : (Jvm.Cond.laysFinal "KindPostman$Joined" "KindPostman$Joined" "left" "LKindPostman$Term;") ∈ lw_all := lw_g (lw_at lw_m3 168 rfl) rfl
theorem q791 : (Jvm.Cond.soleField "KindPostman$Joined" "left") ∈ lw_all := lw_g (lw_at lw_m3 169 rfl) rfl
theorem q792 : (Jvm.Cond.laysFinal "KindPostman$Joined" "KindPostman$Joined" "right" "LKindPostman$Term;") ∈ lw_all := lw_g (lw_at lw_m3 170 rfl) rfl
theorem q793 : (Jvm.Cond.soleField "KindPostman$Joined" "right") ∈ lw_all := lw_g (lw_at lw_m3 171 rfl) rfl
theorem q794 : (Jvm.Cond.laysFinal "KindPostman$Joined" "KindPostman$Joined" "how" "I") ∈ lw_all := lw_g (lw_at lw_m3 172 rfl) rfl
theorem q795 : (Jvm.Cond.soleField "KindPostman$Joined" "how") ∈ lw_all := lw_g (lw_at lw_m3 173 rfl) rfl
theorem q796 : (Jvm.Cond.superclass "KindPostman$Joined" "KindPostman$Term") ∈ lw_all := lw_g (lw_at lw_m3 174 rfl) rfl
theorem q883 : (Jvm.Cond.selects "KindPostman$Joined" ({ cls := "java/lang/Object", name := "getClass", desc := "()Ljava/lang/Class;" } : Jvm.MethodName) ({ cls := "java/lang/Object", name := "getClass", desc := "()Ljava/lang/Class;" } : Jvm.MethodName)) ∈ lw_all := lw_g (lw_at lw_m4 21 rfl) rfl
theorem q1079 : (Jvm.Cond.selects "KindPostman$Joined" ({ cls := "KindPostman$Term", name := "of", desc := "(LKindPostman$Asker;)I" } : Jvm.MethodName) ({ cls := "KindPostman$Joined", name := "of", desc := "(LKindPostman$Asker;)I" } : Jvm.MethodName)) ∈ lw_all := lw_g (lw_at lw_m4 217 rfl) rfl
theorem q1080 : (Jvm.Cond.instanceMethod ({ cls := "KindPostman$Joined", name := "of", desc := "(LKindPostman$Asker;)I" } : Jvm.MethodName)) ∈ lw_all := lw_g (lw_at lw_m4 218 rfl) rfl
theorem q1081 : (Jvm.Cond.code ({ cls := "KindPostman$Joined", name := "of", desc := "(LKindPostman$Asker;)I" } : Jvm.MethodName) prog_7_method_2_code (4 : Nat) (Option.some Jvm.ClassFile.FieldType.int)) ∈ lw_all := lw_g (lw_at lw_m4 219 rfl) rfl
theorem q1082 : (Jvm.Cond.methodLink "KindPostman$Joined" (22 : Nat) ({ cls := "KindPostman$Term", name := "of", desc := "(LKindPostman$Asker;)I" } : Jvm.MethodName)) ∈ lw_all := lw_g (lw_at lw_m4 220 rfl) rfl
theorem q2086 : (Jvm.Cond.castable "KindPostman$Joined" "java/lang/Object") ∈ lw_tbl := lw_at lw_m9 24 rfl
theorem in_X12 : ∀ w ∈ wsX120, w ∈ lw_all := lw_in wsX120 [790, 792, 794] (by decide +kernel) (by decide +kernel)
/-! KindPostman$Not -/
set_option maxRecDepth 100000
def RX13 : String := "KindPostman$Not"
def TX13 : u_T := fun k => match k with
  | _ => ("KindPostman$Not", "term", "LKindPostman$Term;", true)
def tyX13 : Nat → FieldType := fun k => match k with
  | _ => .object "KindPostman$Term"
abbrev wsX130 : List Cond := u_ws RX13 TX13 1
theorem nmX13 : ∀ a, a < 1 → ∀ b, b < 1 → a ≠ b → (TX13 a).2.1 ≠ (TX13 b).2.1 := by decide +kernel
theorem tyX13_ok : ∀ k, k < 1 → parseFieldDescriptor (TX13 k).2.2.1 = some (tyX13 k) := by decide +kernel
abbrev cX13_init : ByteArray := prog_11_method_1_code
def yX13_init : MethodName := ⟨RX13, "<init>", "(LKindPostman$Term;)V"⟩
def dkwX13_init_0 : List UInt8 := [42, 183, 0, 1, 42, 43, 181, 0, 7, 177]
abbrev dktX13_init_0 : List UInt8 := dkwX13_init_0 ++ []
theorem dksX13_init_0 : cX13_init.data.toList.drop 0 = dktX13_init_0 := by decide +kernel
theorem dX13_init_0 : decode cX13_init 0 = .ok (.aload_n 0, 1) := dk_42 (dk_at dksX13_init_0 0 rfl rfl)
theorem dX13_init_1 : decode cX13_init 1 = .ok (.invokespecial 1, 3) := dk_183 0 1 (dk_at dksX13_init_0 1 rfl rfl)
theorem dX13_init_4 : decode cX13_init 4 = .ok (.aload_n 0, 1) := dk_42 (dk_at dksX13_init_0 4 rfl rfl)
theorem dX13_init_5 : decode cX13_init 5 = .ok (.aload_n 1, 1) := dk_43 (dk_at dksX13_init_0 5 rfl rfl)
theorem dX13_init_6 : decode cX13_init 6 = .ok (.putfield 7, 3) := dk_181 0 7 (dk_at dksX13_init_0 6 rfl rfl)
theorem dX13_init_9 : decode cX13_init 9 = .ok (.return_, 1) := dk_177 (dk_at dksX13_init_0 9 rfl rfl)
abbrev cX13_of : ByteArray := prog_11_method_2_code
def yX13_of : MethodName := ⟨RX13, "of", "(LKindPostman$Asker;)I"⟩
def dkwX13_of_0 : List UInt8 := [4, 42, 180, 0, 7, 43, 182, 0, 13, 100, 172]
abbrev dktX13_of_0 : List UInt8 := dkwX13_of_0 ++ []
theorem dksX13_of_0 : cX13_of.data.toList.drop 0 = dktX13_of_0 := by decide +kernel
theorem dX13_of_0 : decode cX13_of 0 = .ok (.iconst 1, 1) := dk_4 (dk_at dksX13_of_0 0 rfl rfl)
theorem dX13_of_1 : decode cX13_of 1 = .ok (.aload_n 0, 1) := dk_42 (dk_at dksX13_of_0 1 rfl rfl)
theorem dX13_of_2 : decode cX13_of 2 = .ok (.getfield 7, 3) := dk_180 0 7 (dk_at dksX13_of_0 2 rfl rfl)
theorem dX13_of_5 : decode cX13_of 5 = .ok (.aload_n 1, 1) := dk_43 (dk_at dksX13_of_0 5 rfl rfl)
theorem dX13_of_6 : decode cX13_of 6 = .ok (.invokevirtual 13, 3) := dk_182 0 13 (dk_at dksX13_of_0 6 rfl rfl)
theorem dX13_of_9 : decode cX13_of 9 = .ok (.isub, 1) := dk_100 (dk_at dksX13_of_0 9 rfl rfl)
theorem dX13_of_10 : decode cX13_of 10 = .ok (.ireturn, 1) := dk_172 (dk_at dksX13_of_0 10 rfl rfl)
theorem q168 : (Jvm.Cond.initialized "KindPostman$Not") ∈ lw_all := lw_g (lw_at lw_m1 26 rfl) rfl
theorem q814 : (Jvm.Cond.instantiable "KindPostman$Not" (1 : Nat)) ∈ lw_all := lw_g (lw_at lw_m3 192 rfl) rfl
theorem q816 : (Jvm.Cond.instanceMethod ({ cls := "KindPostman$Not", name := "<init>", desc := "(LKindPostman$Term;)V" } : Jvm.MethodName)) ∈ lw_all := lw_g (lw_at lw_m3 194 rfl) rfl
theorem q817 : (Jvm.Cond.code ({ cls := "KindPostman$Not", name := "<init>", desc := "(LKindPostman$Term;)V" } : Jvm.MethodName) prog_11_method_1_code (2 : Nat) (Option.none : Option Jvm.ClassFile.FieldType)) ∈ lw_all := lw_g (lw_at lw_m3 195 rfl) rfl
theorem q818 : (Jvm.Cond.methodLinkNest "KindPostman$Not" (1 : Nat) ({ cls := "KindPostman$Term", name := "<init>", desc := "()V" } : Jvm.MethodName) "KindPostman") ∈ lw_tbl := lw_at lw_m3 196 rfl
theorem q819 : (Jvm.Cond.fieldLink "KindPostman$Not" (7 : Nat) "KindPostman$Not" "term" "LKindPostman$Term;") ∈ lw_all := lw_g (lw_at lw_m3 197 rfl) rfl
theorem q820 : (Jvm.Cond.laysFinal "KindPostman$Not" "KindPostman$Not" "term" "LKindPostman$Term;") ∈ lw_all := lw_g (lw_at lw_m3 198 rfl) rfl
theorem q821 : (Jvm.Cond.soleField "KindPostman$Not" "term") ∈ lw_all := lw_g (lw_at lw_m3 199 rfl) rfl
theorem q822 : (Jvm.Cond.superclass "KindPostman$Not" "KindPostman$Term") ∈ lw_all := lw_g (lw_at lw_m3 200 rfl) rfl
theorem q887 : (Jvm.Cond.selects "KindPostman$Not" ({ cls := "java/lang/Object", name := "getClass", desc := "()Ljava/lang/Class;" } : Jvm.MethodName) ({ cls := "java/lang/Object", name := "getClass", desc := "()Ljava/lang/Class;" } : Jvm.MethodName)) ∈ lw_all := lw_g (lw_at lw_m4 25 rfl) rfl
theorem q1095 : (Jvm.Cond.instanceMethod ({ cls := "KindPostman$Not", name := "of", desc := "(LKindPostman$Asker;)I" } : Jvm.MethodName)) ∈ lw_all := lw_g (lw_at lw_m4 233 rfl) rfl
theorem q1096 : (Jvm.Cond.code ({ cls := "KindPostman$Not", name := "of", desc := "(LKindPostman$Asker;)I" } : Jvm.MethodName) prog_11_method_2_code (2 : Nat) (Option.some Jvm.ClassFile.FieldType.int)) ∈ lw_all := lw_g (lw_at lw_m4 234 rfl) rfl
theorem q1097 : (Jvm.Cond.methodLink "KindPostman$Not" (13 : Nat) ({ cls := "KindPostman$Term", name := "of", desc := "(LKindPostman$Asker;)I" } : Jvm.MethodName)) ∈ lw_all := lw_g (lw_at lw_m4 235 rfl) rfl
theorem q1099 : (Jvm.Cond.selects "KindPostman$Not" ({ cls := "KindPostman$Term", name := "of", desc := "(LKindPostman$Asker;)I" } : Jvm.MethodName) ({ cls := "KindPostman$Not", name := "of", desc := "(LKindPostman$Asker;)I" } : Jvm.MethodName)) ∈ lw_all := lw_g (lw_at lw_m4 237 rfl) rfl
theorem q2087 : (Jvm.Cond.castable "KindPostman$Not" "java/lang/Object") ∈ lw_tbl := lw_at lw_m9 25 rfl
theorem in_X13 : ∀ w ∈ wsX130, w ∈ lw_all := lw_in wsX130 [820] (by decide +kernel) (by decide +kernel)
/-! KindPostman$Line -/
set_option maxRecDepth 100000
def RX14 : String := "KindPostman$Line"
def TX14 : u_T := fun k => match k with
  | 0 => ("KindPostman$Line", "word", "I", true)
  | 1 => ("KindPostman$Line", "comesTo", "LKindPostman$Term;", true)
  | _ => ("KindPostman$Line", "when", "LKindPostman$Term;", true)
def tyX14 : Nat → FieldType := fun k => match k with
  | 0 => .int
  | 1 => .object "KindPostman$Term"
  | _ => .object "KindPostman$Term"
abbrev wsX140 : List Cond := u_ws RX14 TX14 3
theorem nmX14 : ∀ a, a < 3 → ∀ b, b < 3 → a ≠ b → (TX14 a).2.1 ≠ (TX14 b).2.1 := by decide +kernel
theorem tyX14_ok : ∀ k, k < 3 → parseFieldDescriptor (TX14 k).2.2.1 = some (tyX14 k) := by decide +kernel
abbrev cX14_init : ByteArray := prog_10_method_1_code
def yX14_init : MethodName := ⟨RX14, "<init>", "(ILKindPostman$Term;LKindPostman$Term;)V"⟩
def dkwX14_init_0 : List UInt8 := [42, 183, 0, 1, 42, 27, 181, 0, 7, 42, 44, 181, 0, 13, 42, 45, 181, 0, 17, 177]
abbrev dktX14_init_0 : List UInt8 := dkwX14_init_0 ++ []
theorem dksX14_init_0 : cX14_init.data.toList.drop 0 = dktX14_init_0 := by decide +kernel
theorem dX14_init_0 : decode cX14_init 0 = .ok (.aload_n 0, 1) := dk_42 (dk_at dksX14_init_0 0 rfl rfl)
theorem dX14_init_1 : decode cX14_init 1 = .ok (.invokespecial 1, 3) := dk_183 0 1 (dk_at dksX14_init_0 1 rfl rfl)
theorem dX14_init_4 : decode cX14_init 4 = .ok (.aload_n 0, 1) := dk_42 (dk_at dksX14_init_0 4 rfl rfl)
theorem dX14_init_5 : decode cX14_init 5 = .ok (.iload_n 1, 1) := dk_27 (dk_at dksX14_init_0 5 rfl rfl)
theorem dX14_init_6 : decode cX14_init 6 = .ok (.putfield 7, 3) := dk_181 0 7 (dk_at dksX14_init_0 6 rfl rfl)
theorem dX14_init_9 : decode cX14_init 9 = .ok (.aload_n 0, 1) := dk_42 (dk_at dksX14_init_0 9 rfl rfl)
theorem dX14_init_10 : decode cX14_init 10 = .ok (.aload_n 2, 1) := dk_44 (dk_at dksX14_init_0 10 rfl rfl)
theorem dX14_init_11 : decode cX14_init 11 = .ok (.putfield 13, 3) := dk_181 0 13 (dk_at dksX14_init_0 11 rfl rfl)
theorem dX14_init_14 : decode cX14_init 14 = .ok (.aload_n 0, 1) := dk_42 (dk_at dksX14_init_0 14 rfl rfl)
theorem dX14_init_15 : decode cX14_init 15 = .ok (.aload_n 3, 1) := dk_45 (dk_at dksX14_init_0 15 rfl rfl)
theorem dX14_init_16 : decode cX14_init 16 = .ok (.putfield 17, 3) := dk_181 0 17 (dk_at dksX14_init_0 16 rfl rfl)
theorem dX14_init_19 : decode cX14_init 19 = .ok (.return_, 1) := dk_177 (dk_at dksX14_init_0 19 rfl rfl)
theorem q169 : (Jvm.Cond.initialized "KindPostman$Line") ∈ lw_all := lw_g (lw_at lw_m1 27 rfl) rfl
theorem q828 : (Jvm.Cond.instantiable "KindPostman$Line" (3 : Nat)) ∈ lw_all := lw_g (lw_at lw_m3 206 rfl) rfl
theorem q830 : (Jvm.Cond.instanceMethod ({ cls := "KindPostman$Line", name := "<init>", desc := "(ILKindPostman$Term;LKindPostman$Term;)V" } : Jvm.MethodName)) ∈ lw_all := lw_g (lw_at lw_m3 208 rfl) rfl
theorem q831 : (Jvm.Cond.code ({ cls := "KindPostman$Line", name := "<init>", desc := "(ILKindPostman$Term;LKindPostman$Term;)V" } : Jvm.MethodName) prog_10_method_1_code (4 : Nat) (Option.none : Option Jvm.ClassFile.FieldType)) ∈ lw_all := lw_g (lw_at lw_m3 209 rfl) rfl
theorem q832 : (Jvm.Cond.methodLink "KindPostman$Line" (1 : Nat) ({ cls := "java/lang/Object", name := "<init>", desc := "()V" } : Jvm.MethodName)) ∈ lw_all := lw_g (lw_at lw_m3 210 rfl) rfl
theorem q833 : (Jvm.Cond.fieldLink "KindPostman$Line" (7 : Nat) "KindPostman$Line" "word" "I") ∈ lw_all := lw_g (lw_at lw_m3 211 rfl) rfl
theorem q835 : (Jvm.Cond.fieldLink "KindPostman$Line" (13 : Nat) "KindPostman$Line" "comesTo" "LKindPostman$Term;") ∈ lw_all := lw_g (lw_at lw_m3 213 rfl) rfl
theorem q837 : (Jvm.Cond.fieldLink "KindPostman$Line" (17 : Nat) "KindPostman$Line" "when" "LKindPostman$Term;") ∈ lw_all := lw_g (lw_at lw_m3 215 rfl) rfl
theorem q839 : (Jvm.Cond.laysFinal "KindPostman$Line" "KindPostman$Line" "word" "I") ∈ lw_all := lw_g (lw_at lw_m3 217 rfl) rfl
theorem q840 : (Jvm.Cond.soleField "KindPostman$Line" "word") ∈ lw_all := lw_g (lw_at lw_m3 218 rfl) rfl
theorem q841 : (Jvm.Cond.laysFinal "KindPostman$Line" "KindPostman$Line" "comesTo" "LKindPostman$Term;") ∈ lw_all := lw_g (lw_at lw_m3 219 rfl) rfl
theorem q842 : (Jvm.Cond.soleField "KindPostman$Line" "comesTo") ∈ lw_all := lw_g (lw_at lw_m3 220 rfl) rfl
theorem q843 : (Jvm.Cond.laysFinal "KindPostman$Line" "KindPostman$Line" "when" "LKindPostman$Term;") ∈ lw_all := lw_g (lw_at lw_m3 221 rfl) rfl
theorem q844 : (Jvm.Cond.soleField "KindPostman$Line" "when") ∈ lw_all := lw_g (lw_at lw_m3 222 rfl) rfl
theorem q845 : (Jvm.Cond.superclass "KindPostman$Line" "java/lang/Object") ∈ lw_all := lw_g (lw_at lw_m3 223 rfl) rfl
theorem q886 : (Jvm.Cond.selects "KindPostman$Line" ({ cls := "java/lang/Object", name := "getClass", desc := "()Ljava/lang/Class;" } : Jvm.MethodName) ({ cls := "java/lang/Object", name := "getClass", desc := "()Ljava/lang/Class;" } : Jvm.MethodName)) ∈ lw_all := lw_g (lw_at lw_m4 24 rfl) rfl
theorem q2088 : (Jvm.Cond.castable "KindPostman$Line" "java/lang/Object") ∈ lw_tbl := lw_at lw_m9 26 rfl
theorem in_X14 : ∀ w ∈ wsX140, w ∈ lw_all := lw_in wsX140 [839, 841, 843] (by decide +kernel) (by decide +kernel)
/-! KindPostman$Posting -/
set_option maxRecDepth 100000
def RX15 : String := "KindPostman$Posting"
def TX15 : u_T := fun k => match k with
  | 0 => ("KindPostman$Posting", "day", "I", true)
  | 1 => ("KindPostman$Posting", "door", "I", true)
  | 2 => ("KindPostman$Posting", "kind", "I", true)
  | _ => ("KindPostman$Posting", "much", "I", true)
def tyX15 : Nat → FieldType := fun k => match k with
  | 0 => .int
  | 1 => .int
  | 2 => .int
  | _ => .int
abbrev wsX150 : List Cond := u_ws RX15 TX15 4
theorem nmX15 : ∀ a, a < 4 → ∀ b, b < 4 → a ≠ b → (TX15 a).2.1 ≠ (TX15 b).2.1 := by decide +kernel
theorem tyX15_ok : ∀ k, k < 4 → parseFieldDescriptor (TX15 k).2.2.1 = some (tyX15 k) := by decide +kernel
abbrev cX15_init : ByteArray := prog_12_method_1_code
def yX15_init : MethodName := ⟨RX15, "<init>", "(IIII)V"⟩
def dkwX15_init_1 : List UInt8 := [181, 0, 19, 177]
abbrev dktX15_init_1 : List UInt8 := dkwX15_init_1 ++ []
def dkwX15_init_0 : List UInt8 := [42, 183, 0, 1, 42, 27, 181, 0, 7, 42, 28, 181, 0, 13, 42, 29, 181, 0, 16, 42, 21, 4]
abbrev dktX15_init_0 : List UInt8 := dkwX15_init_0 ++ dktX15_init_1
theorem dksX15_init_0 : cX15_init.data.toList.drop 0 = dktX15_init_0 := by decide +kernel
theorem dksX15_init_1 : cX15_init.data.toList.drop 22 = dktX15_init_1 := dk_seg dksX15_init_0 22 rfl rfl
theorem dX15_init_0 : decode cX15_init 0 = .ok (.aload_n 0, 1) := dk_42 (dk_at dksX15_init_0 0 rfl rfl)
theorem dX15_init_1 : decode cX15_init 1 = .ok (.invokespecial 1, 3) := dk_183 0 1 (dk_at dksX15_init_0 1 rfl rfl)
theorem dX15_init_4 : decode cX15_init 4 = .ok (.aload_n 0, 1) := dk_42 (dk_at dksX15_init_0 4 rfl rfl)
theorem dX15_init_5 : decode cX15_init 5 = .ok (.iload_n 1, 1) := dk_27 (dk_at dksX15_init_0 5 rfl rfl)
theorem dX15_init_6 : decode cX15_init 6 = .ok (.putfield 7, 3) := dk_181 0 7 (dk_at dksX15_init_0 6 rfl rfl)
theorem dX15_init_9 : decode cX15_init 9 = .ok (.aload_n 0, 1) := dk_42 (dk_at dksX15_init_0 9 rfl rfl)
theorem dX15_init_10 : decode cX15_init 10 = .ok (.iload_n 2, 1) := dk_28 (dk_at dksX15_init_0 10 rfl rfl)
theorem dX15_init_11 : decode cX15_init 11 = .ok (.putfield 13, 3) := dk_181 0 13 (dk_at dksX15_init_0 11 rfl rfl)
theorem dX15_init_14 : decode cX15_init 14 = .ok (.aload_n 0, 1) := dk_42 (dk_at dksX15_init_0 14 rfl rfl)
theorem dX15_init_15 : decode cX15_init 15 = .ok (.iload_n 3, 1) := dk_29 (dk_at dksX15_init_0 15 rfl rfl)
theorem dX15_init_16 : decode cX15_init 16 = .ok (.putfield 16, 3) := dk_181 0 16 (dk_at dksX15_init_0 16 rfl rfl)
theorem dX15_init_19 : decode cX15_init 19 = .ok (.aload_n 0, 1) := dk_42 (dk_at dksX15_init_0 19 rfl rfl)
theorem dX15_init_20 : decode cX15_init 20 = .ok (.iload 4, 2) := dk_21 4 (dk_at dksX15_init_0 20 rfl rfl)
theorem dX15_init_22 : decode cX15_init 22 = .ok (.putfield 19, 3) := dk_181 0 19 (dk_at dksX15_init_1 0 rfl rfl)
theorem dX15_init_25 : decode cX15_init 25 = .ok (.return_, 1) := dk_177 (dk_at dksX15_init_1 3 rfl rfl)
theorem q173 : (Jvm.Cond.initialized "KindPostman$Posting") ∈ lw_all := lw_g (lw_at lw_m1 31 rfl) rfl
theorem q888 : (Jvm.Cond.selects "KindPostman$Posting" ({ cls := "java/lang/Object", name := "getClass", desc := "()Ljava/lang/Class;" } : Jvm.MethodName) ({ cls := "java/lang/Object", name := "getClass", desc := "()Ljava/lang/Class;" } : Jvm.MethodName)) ∈ lw_all := lw_g (lw_at lw_m4 26 rfl) rfl
theorem q919 : (Jvm.Cond.instantiable "KindPostman$Posting" (4 : Nat)) ∈ lw_all := lw_g (lw_at lw_m4 57 rfl) rfl
theorem q921 : (Jvm.Cond.instanceMethod ({ cls := "KindPostman$Posting", name := "<init>", desc := "(IIII)V" } : Jvm.MethodName)) ∈ lw_all := lw_g (lw_at lw_m4 59 rfl) rfl
theorem q922 : (Jvm.Cond.code ({ cls := "KindPostman$Posting", name := "<init>", desc := "(IIII)V" } : Jvm.MethodName) prog_12_method_1_code (5 : Nat) (Option.none : Option Jvm.ClassFile.FieldType)) ∈ lw_all := lw_g (lw_at lw_m4 60 rfl) rfl
theorem q923 : (Jvm.Cond.methodLink "KindPostman$Posting" (1 : Nat) ({ cls := "java/lang/Object", name := "<init>", desc := "()V" } : Jvm.MethodName)) ∈ lw_all := lw_g (lw_at lw_m4 61 rfl) rfl
theorem q924 : (Jvm.Cond.fieldLink "KindPostman$Posting" (7 : Nat) "KindPostman$Posting" "day" "I") ∈ lw_all := lw_g (lw_at lw_m4 62 rfl) rfl
theorem q926 : (Jvm.Cond.fieldLink "KindPostman$Posting" (13 : Nat) "KindPostman$Posting" "door" "I") ∈ lw_all := lw_g (lw_at lw_m4 64 rfl) rfl
theorem q928 : (Jvm.Cond.fieldLink "KindPostman$Posting" (16 : Nat) "KindPostman$Posting" "kind" "I") ∈ lw_all := lw_g (lw_at lw_m4 66 rfl) rfl
theorem q930 : (Jvm.Cond.fieldLink "KindPostman$Posting" (19 : Nat) "KindPostman$Posting" "much" "I") ∈ lw_all := lw_g (lw_at lw_m4 68 rfl) rfl
theorem q932 : (Jvm.Cond.laysFinal "KindPostman$Posting" "KindPostman$Posting" "day" "I") ∈ lw_all := lw_g (lw_at lw_m4 70 rfl) rfl
theorem q933 : (Jvm.Cond.soleField "KindPostman$Posting" "day") ∈ lw_all := lw_g (lw_at lw_m4 71 rfl) rfl
theorem q934 : (Jvm.Cond.laysFinal "KindPostman$Posting" "KindPostman$Posting" "door" "I") ∈ lw_all := lw_g (lw_at lw_m4 72 rfl) rfl
theorem q935 : (Jvm.Cond.soleField "KindPostman$Posting" "door") ∈ lw_all := lw_g (lw_at lw_m4 73 rfl) rfl
theorem q936 : (Jvm.Cond.laysFinal "KindPostman$Posting" "KindPostman$Posting" "kind" "I") ∈ lw_all := lw_g (lw_at lw_m4 74 rfl) rfl
theorem q937 : (Jvm.Cond.soleField "KindPostman$Posting" "kind") ∈ lw_all := lw_g (lw_at lw_m4 75 rfl) rfl
theorem q938 : (Jvm.Cond.laysFinal "KindPostman$Posting" "KindPostman$Posting" "much" "I") ∈ lw_all := lw_g (lw_at lw_m4 76 rfl) rfl
theorem q939 : (Jvm.Cond.soleField "KindPostman$Posting" "much") ∈ lw_all := lw_g (lw_at lw_m4 77 rfl) rfl
theorem q940 : (Jvm.Cond.superclass "KindPostman$Posting" "java/lang/Object") ∈ lw_all := lw_g (lw_at lw_m4 78 rfl) rfl
theorem q2089 : (Jvm.Cond.castable "KindPostman$Posting" "java/lang/Object") ∈ lw_tbl := lw_at lw_m9 27 rfl
theorem in_X15 : ∀ w ∈ wsX150, w ∈ lw_all := lw_in wsX150 [932, 934, 936, 938] (by decide +kernel) (by decide +kernel)
/-! the law's own entry -/
set_option maxRecDepth 100000
abbrev cL_law : ByteArray := code
def dkwL_law_49 : List UInt8 := [132, 3, 6, 167, 251, 9, 4, 172]
abbrev dktL_law_49 : List UInt8 := dkwL_law_49 ++ []
def dkwL_law_48 : List UInt8 := [172, 43, 42, 29, 4, 96, 46, 182, 0, 163, 44, 42, 29, 4, 96, 46, 182, 0, 166, 159, 0, 5, 3, 172]
abbrev dktL_law_48 : List UInt8 := dkwL_law_48 ++ dktL_law_49
def dkwL_law_47 : List UInt8 := [182, 0, 158, 44, 42, 29, 4, 96, 46, 153, 0, 7, 4, 167, 0, 4, 3, 182, 0, 162, 159, 0, 28, 3]
abbrev dktL_law_47 : List UInt8 := dkwL_law_47 ++ dktL_law_48
def dkwL_law_46 : List UInt8 := [182, 0, 157, 159, 0, 67, 3, 172, 43, 42, 29, 4, 96, 46, 153, 0, 7, 4, 167, 0, 4, 3]
abbrev dktL_law_46 : List UInt8 := dkwL_law_46 ++ dktL_law_47
def dkwL_law_45 : List UInt8 := [96, 46, 182, 0, 149, 44, 42, 29, 4, 96, 46, 182, 0, 152, 159, 0, 80, 3, 172, 43, 182, 0, 153, 44]
abbrev dktL_law_45 : List UInt8 := dkwL_law_45 ++ dktL_law_46
def dkwL_law_44 : List UInt8 := [4, 96, 46, 182, 0, 145, 44, 42, 29, 4, 96, 46, 182, 0, 148, 159, 0, 103, 3, 172, 43, 42, 29, 4]
abbrev dktL_law_44 : List UInt8 := dkwL_law_44 ++ dktL_law_45
def dkwL_law_43 : List UInt8 := [29, 4, 96, 46, 182, 0, 141, 44, 42, 29, 4, 96, 46, 182, 0, 144, 159, 0, 126, 3, 172, 43, 42, 29]
abbrev dktL_law_43 : List UInt8 := dkwL_law_43 ++ dktL_law_44
def dkwL_law_42 : List UInt8 := [182, 0, 137, 44, 42, 29, 4, 96, 46, 42, 29, 5, 96, 46, 182, 0, 140, 159, 0, 149, 3, 172, 43, 42]
abbrev dktL_law_42 : List UInt8 := dkwL_law_42 ++ dktL_law_43
def dkwL_law_41 : List UInt8 := [42, 29, 4, 96, 46, 182, 0, 136, 159, 0, 182, 3, 172, 43, 42, 29, 4, 96, 46, 42, 29, 5, 96, 46]
abbrev dktL_law_41 : List UInt8 := dkwL_law_41 ++ dktL_law_42
def dkwL_law_40 : List UInt8 := [46, 42, 29, 5, 96, 46, 182, 0, 132, 159, 0, 205, 3, 172, 43, 42, 29, 4, 96, 46, 182, 0, 133, 44]
abbrev dktL_law_40 : List UInt8 := dkwL_law_40 ++ dktL_law_41
def dkwL_law_39 : List UInt8 := [159, 0, 238, 3, 172, 43, 42, 29, 4, 96, 46, 42, 29, 5, 96, 46, 182, 0, 129, 44, 42, 29, 4, 96]
abbrev dktL_law_39 : List UInt8 := dkwL_law_39 ++ dktL_law_40
def dkwL_law_38 : List UInt8 := [96, 46, 42, 29, 5, 96, 46, 182, 0, 125, 44, 42, 29, 4, 96, 46, 42, 29, 5, 96, 46, 182, 0, 128]
abbrev dktL_law_38 : List UInt8 := dkwL_law_38 ++ dktL_law_39
def dkwL_law_37 : List UInt8 := [4, 96, 46, 182, 0, 121, 44, 42, 29, 4, 96, 46, 182, 0, 124, 159, 1, 15, 3, 172, 43, 42, 29, 4]
abbrev dktL_law_37 : List UInt8 := dkwL_law_37 ++ dktL_law_38
def dkwL_law_36 : List UInt8 := [29, 4, 96, 46, 182, 0, 117, 44, 42, 29, 4, 96, 46, 182, 0, 120, 159, 1, 38, 3, 172, 43, 42, 29]
abbrev dktL_law_36 : List UInt8 := dkwL_law_36 ++ dktL_law_37
def dkwL_law_35 : List UInt8 := [182, 0, 112, 44, 42, 29, 4, 96, 46, 42, 29, 5, 96, 46, 182, 0, 116, 159, 1, 61, 3, 172, 43, 42]
abbrev dktL_law_35 : List UInt8 := dkwL_law_35 ++ dktL_law_36
def dkwL_law_34 : List UInt8 := [42, 29, 7, 96, 46, 182, 0, 111, 159, 1, 94, 3, 172, 43, 42, 29, 4, 96, 46, 42, 29, 5, 96, 46]
abbrev dktL_law_34 : List UInt8 := dkwL_law_34 ++ dktL_law_35
def dkwL_law_33 : List UInt8 := [42, 29, 7, 96, 46, 182, 0, 107, 44, 42, 29, 4, 96, 46, 42, 29, 5, 96, 46, 42, 29, 6, 96, 46]
abbrev dktL_law_33 : List UInt8 := dkwL_law_33 ++ dktL_law_34
def dkwL_law_32 : List UInt8 := [182, 0, 106, 159, 1, 147, 3, 172, 43, 42, 29, 4, 96, 46, 42, 29, 5, 96, 46, 42, 29, 6, 96, 46]
abbrev dktL_law_32 : List UInt8 := dkwL_law_32 ++ dktL_law_33
def dkwL_law_31 : List UInt8 := [182, 0, 102, 159, 1, 170, 3, 172, 43, 42, 29, 4, 96, 46, 182, 0, 103, 44, 42, 29, 4, 96, 46]
abbrev dktL_law_31 : List UInt8 := dkwL_law_31 ++ dktL_law_32
def dkwL_law_30 : List UInt8 := [6, 96, 46, 182, 0, 99, 44, 42, 29, 4, 96, 46, 42, 29, 5, 96, 46, 42, 29, 6, 96, 46]
abbrev dktL_law_30 : List UInt8 := dkwL_law_30 ++ dktL_law_31
def dkwL_law_29 : List UInt8 := [5, 96, 46, 182, 0, 98, 159, 1, 213, 3, 172, 43, 42, 29, 4, 96, 46, 42, 29, 5, 96, 46, 42, 29]
abbrev dktL_law_29 : List UInt8 := dkwL_law_29 ++ dktL_law_30
def dkwL_law_28 : List UInt8 := [3, 172, 43, 42, 29, 4, 96, 46, 42, 29, 5, 96, 46, 182, 0, 95, 44, 42, 29, 4, 96, 46, 42, 29]
abbrev dktL_law_28 : List UInt8 := dkwL_law_28 ++ dktL_law_29
def dkwL_law_27 : List UInt8 := [29, 5, 96, 46, 182, 0, 91, 44, 42, 29, 4, 96, 46, 42, 29, 5, 96, 46, 182, 0, 94, 159, 1, 246]
abbrev dktL_law_27 : List UInt8 := dkwL_law_27 ++ dktL_law_28
def dkwL_law_26 : List UInt8 := [182, 0, 87, 44, 42, 29, 4, 96, 46, 182, 0, 90, 159, 2, 23, 3, 172, 43, 42, 29, 4, 96, 46, 42]
abbrev dktL_law_26 : List UInt8 := dkwL_law_26 ++ dktL_law_27
def dkwL_law_25 : List UInt8 := [29, 4, 96, 46, 42, 29, 5, 96, 46, 182, 0, 86, 159, 2, 46, 3, 172, 43, 42, 29, 4, 96, 46]
abbrev dktL_law_25 : List UInt8 := dkwL_law_25 ++ dktL_law_26
def dkwL_law_24 : List UInt8 := [182, 0, 82, 159, 2, 79, 3, 172, 43, 42, 29, 4, 96, 46, 42, 29, 5, 96, 46, 182, 0, 83, 44, 42]
abbrev dktL_law_24 : List UInt8 := dkwL_law_24 ++ dktL_law_25
def dkwL_law_23 : List UInt8 := [29, 4, 96, 46, 42, 29, 5, 96, 46, 182, 0, 79, 44, 42, 29, 4, 96, 46, 42, 29, 5, 96, 46]
abbrev dktL_law_23 : List UInt8 := dkwL_law_23 ++ dktL_law_24
def dkwL_law_22 : List UInt8 := [182, 0, 75, 44, 42, 29, 4, 96, 46, 42, 29, 5, 96, 46, 182, 0, 78, 159, 2, 112, 3, 172, 43, 42]
abbrev dktL_law_22 : List UInt8 := dkwL_law_22 ++ dktL_law_23
def dkwL_law_21 : List UInt8 := [42, 29, 4, 96, 46, 182, 0, 74, 159, 2, 145, 3, 172, 43, 42, 29, 4, 96, 46, 42, 29, 5, 96, 46]
abbrev dktL_law_21 : List UInt8 := dkwL_law_21 ++ dktL_law_22
def dkwL_law_20 : List UInt8 := [46, 42, 29, 5, 96, 46, 182, 0, 70, 159, 2, 168, 3, 172, 43, 42, 29, 4, 96, 46, 182, 0, 71, 44]
abbrev dktL_law_20 : List UInt8 := dkwL_law_20 ++ dktL_law_21
def dkwL_law_19 : List UInt8 := [159, 2, 201, 3, 172, 43, 42, 29, 4, 96, 46, 42, 29, 5, 96, 46, 182, 0, 67, 44, 42, 29, 4, 96]
abbrev dktL_law_19 : List UInt8 := dkwL_law_19 ++ dktL_law_20
def dkwL_law_18 : List UInt8 := [96, 46, 42, 29, 5, 96, 46, 182, 0, 62, 44, 42, 29, 4, 96, 46, 42, 29, 5, 96, 46, 182, 0, 66]
abbrev dktL_law_18 : List UInt8 := dkwL_law_18 ++ dktL_law_19
def dkwL_law_17 : List UInt8 := [4, 96, 46, 182, 0, 58, 44, 42, 29, 4, 96, 46, 182, 0, 61, 159, 2, 234, 3, 172, 43, 42, 29, 4]
abbrev dktL_law_17 : List UInt8 := dkwL_law_17 ++ dktL_law_18
def dkwL_law_16 : List UInt8 := [29, 4, 96, 46, 182, 0, 54, 44, 42, 29, 4, 96, 46, 182, 0, 57, 159, 3, 1, 3, 172, 43, 42, 29]
abbrev dktL_law_16 : List UInt8 := dkwL_law_16 ++ dktL_law_17
def dkwL_law_15 : List UInt8 := [42, 29, 4, 96, 46, 182, 0, 50, 44, 42, 29, 4, 96, 46, 182, 0, 53, 159, 3, 24, 3, 172, 43, 42]
abbrev dktL_law_15 : List UInt8 := dkwL_law_15 ++ dktL_law_16
def dkwL_law_14 : List UInt8 := [42, 29, 6, 96, 46, 42, 29, 7, 96, 46, 42, 29, 8, 96, 46, 182, 0, 49, 159, 3, 47, 3, 172, 43]
abbrev dktL_law_14 : List UInt8 := dkwL_law_14 ++ dktL_law_15
def dkwL_law_13 : List UInt8 := [42, 29, 7, 96, 46, 42, 29, 8, 96, 46, 182, 0, 45, 44, 42, 29, 4, 96, 46, 42, 29, 5, 96, 46]
abbrev dktL_law_13 : List UInt8 := dkwL_law_13 ++ dktL_law_14
def dkwL_law_12 : List UInt8 := [182, 0, 44, 159, 3, 110, 3, 172, 43, 42, 29, 4, 96, 46, 42, 29, 5, 96, 46, 42, 29, 6, 96, 46]
abbrev dktL_law_12 : List UInt8 := dkwL_law_12 ++ dktL_law_13
def dkwL_law_11 : List UInt8 := [182, 0, 40, 159, 3, 133, 3, 172, 43, 42, 29, 4, 96, 46, 182, 0, 41, 44, 42, 29, 4, 96, 46]
abbrev dktL_law_11 : List UInt8 := dkwL_law_11 ++ dktL_law_12
def dkwL_law_10 : List UInt8 := [182, 0, 35, 159, 3, 156, 3, 172, 43, 42, 29, 4, 96, 46, 182, 0, 36, 44, 42, 29, 4, 96, 46]
abbrev dktL_law_10 : List UInt8 := dkwL_law_10 ++ dktL_law_11
def dkwL_law_9 : List UInt8 := [182, 0, 31, 159, 3, 179, 3, 172, 43, 42, 29, 4, 96, 46, 182, 0, 32, 44, 42, 29, 4, 96, 46]
abbrev dktL_law_9 : List UInt8 := dkwL_law_9 ++ dktL_law_10
def dkwL_law_8 : List UInt8 := [42, 29, 6, 96, 46, 182, 0, 28, 44, 42, 29, 4, 96, 46, 42, 29, 5, 96, 46, 42, 29, 6, 96, 46]
abbrev dktL_law_8 : List UInt8 := dkwL_law_8 ++ dktL_law_9
def dkwL_law_7 : List UInt8 := [42, 29, 6, 96, 46, 182, 0, 27, 159, 3, 222, 3, 172, 43, 42, 29, 4, 96, 46, 42, 29, 5, 96, 46]
abbrev dktL_law_7 : List UInt8 := dkwL_law_7 ++ dktL_law_8
def dkwL_law_6 : List UInt8 := [42, 29, 5, 96, 46, 42, 29, 6, 96, 46, 182, 0, 23, 44, 42, 29, 4, 96, 46, 42, 29, 5, 96, 46]
abbrev dktL_law_6 : List UInt8 := dkwL_law_6 ++ dktL_law_7
def dkwL_law_5 : List UInt8 := [42, 29, 5, 96, 46, 42, 29, 6, 96, 46, 182, 0, 22, 159, 4, 9, 3, 172, 43, 42, 29, 4, 96, 46]
abbrev dktL_law_5 : List UInt8 := dkwL_law_5 ++ dktL_law_6
def dkwL_law_4 : List UInt8 := [42, 29, 4, 96, 46, 42, 29, 5, 96, 46, 42, 29, 6, 96, 46, 182, 0, 18, 44, 42, 29, 4, 96, 46]
abbrev dktL_law_4 : List UInt8 := dkwL_law_4 ++ dktL_law_5
def dkwL_law_3 : List UInt8 := [43, 42, 29, 4, 96, 46, 182, 0, 13, 44, 42, 29, 4, 96, 46, 182, 0, 17, 159, 4, 52, 3, 172, 43]
abbrev dktL_law_3 : List UInt8 := dkwL_law_3 ++ dktL_law_4
def dkwL_law_2 : List UInt8 := [170, 0, 0, 0, 0, 4, 229, 0, 0, 0, 0, 0, 0, 0, 35, 0, 0, 0, 159, 0, 0, 0, 182, 0, 0, 0, 225, 0, 0, 1, 12, 0, 0, 1, 55, 0, 0, 1, 78, 0, 0, 1, 101, 0, 0, 1, 124, 0, 0, 1, 187, 0, 0, 1, 210, 0, 0, 1, 233, 0, 0, 2, 0, 0, 0, 2, 33, 0, 0, 2, 66, 0, 0, 2, 89, 0, 0, 2, 122, 0, 0, 2, 155, 0, 0, 2, 188, 0, 0, 2, 211, 0, 0, 2, 244, 0, 0, 3, 21, 0, 0, 3, 64, 0, 0, 3, 87, 0, 0, 3, 140, 0, 0, 3, 173, 0, 0, 3, 196, 0, 0, 3, 219, 0, 0, 3, 252, 0, 0, 4, 29, 0, 0, 4, 52, 0, 0, 4, 85, 0, 0, 4, 108, 0, 0, 4, 131, 0, 0, 4, 154, 0, 0, 4, 167, 0, 0, 4, 206]
abbrev dktL_law_2 : List UInt8 := dkwL_law_2 ++ dktL_law_3
def dkwL_law_1 : List UInt8 := [163, 4, 244, 42, 29, 46, 16, 63, 126]
abbrev dktL_law_1 : List UInt8 := dkwL_law_1 ++ dktL_law_2
def dkwL_law_0 : List UInt8 := [187, 0, 7, 89, 183, 0, 9, 76, 187, 0, 10, 89, 183, 0, 12, 77, 3, 62, 29, 42, 190, 16, 6, 100]
abbrev dktL_law_0 : List UInt8 := dkwL_law_0 ++ dktL_law_1
theorem dksL_law_0 : cL_law.data.toList.drop 0 = dktL_law_0 := by decide +kernel
theorem dksL_law_1 : cL_law.data.toList.drop 24 = dktL_law_1 := dk_seg dksL_law_0 24 rfl rfl
theorem dksL_law_2 : cL_law.data.toList.drop 33 = dktL_law_2 := dk_seg dksL_law_1 9 rfl rfl
theorem dksL_law_3 : cL_law.data.toList.drop 192 = dktL_law_3 := dk_seg dksL_law_2 159 rfl rfl
theorem dksL_law_4 : cL_law.data.toList.drop 216 = dktL_law_4 := dk_seg dksL_law_3 24 rfl rfl
theorem dksL_law_5 : cL_law.data.toList.drop 240 = dktL_law_5 := dk_seg dksL_law_4 24 rfl rfl
theorem dksL_law_6 : cL_law.data.toList.drop 264 = dktL_law_6 := dk_seg dksL_law_5 24 rfl rfl
theorem dksL_law_7 : cL_law.data.toList.drop 288 = dktL_law_7 := dk_seg dksL_law_6 24 rfl rfl
theorem dksL_law_8 : cL_law.data.toList.drop 312 = dktL_law_8 := dk_seg dksL_law_7 24 rfl rfl
theorem dksL_law_9 : cL_law.data.toList.drop 336 = dktL_law_9 := dk_seg dksL_law_8 24 rfl rfl
theorem dksL_law_10 : cL_law.data.toList.drop 359 = dktL_law_10 := dk_seg dksL_law_9 23 rfl rfl
theorem dksL_law_11 : cL_law.data.toList.drop 382 = dktL_law_11 := dk_seg dksL_law_10 23 rfl rfl
theorem dksL_law_12 : cL_law.data.toList.drop 405 = dktL_law_12 := dk_seg dksL_law_11 23 rfl rfl
theorem dksL_law_13 : cL_law.data.toList.drop 429 = dktL_law_13 := dk_seg dksL_law_12 24 rfl rfl
theorem dksL_law_14 : cL_law.data.toList.drop 453 = dktL_law_14 := dk_seg dksL_law_13 24 rfl rfl
theorem dksL_law_15 : cL_law.data.toList.drop 477 = dktL_law_15 := dk_seg dksL_law_14 24 rfl rfl
theorem dksL_law_16 : cL_law.data.toList.drop 501 = dktL_law_16 := dk_seg dksL_law_15 24 rfl rfl
theorem dksL_law_17 : cL_law.data.toList.drop 525 = dktL_law_17 := dk_seg dksL_law_16 24 rfl rfl
theorem dksL_law_18 : cL_law.data.toList.drop 549 = dktL_law_18 := dk_seg dksL_law_17 24 rfl rfl
theorem dksL_law_19 : cL_law.data.toList.drop 573 = dktL_law_19 := dk_seg dksL_law_18 24 rfl rfl
theorem dksL_law_20 : cL_law.data.toList.drop 597 = dktL_law_20 := dk_seg dksL_law_19 24 rfl rfl
theorem dksL_law_21 : cL_law.data.toList.drop 621 = dktL_law_21 := dk_seg dksL_law_20 24 rfl rfl
theorem dksL_law_22 : cL_law.data.toList.drop 645 = dktL_law_22 := dk_seg dksL_law_21 24 rfl rfl
theorem dksL_law_23 : cL_law.data.toList.drop 669 = dktL_law_23 := dk_seg dksL_law_22 24 rfl rfl
theorem dksL_law_24 : cL_law.data.toList.drop 692 = dktL_law_24 := dk_seg dksL_law_23 23 rfl rfl
theorem dksL_law_25 : cL_law.data.toList.drop 716 = dktL_law_25 := dk_seg dksL_law_24 24 rfl rfl
theorem dksL_law_26 : cL_law.data.toList.drop 739 = dktL_law_26 := dk_seg dksL_law_25 23 rfl rfl
theorem dksL_law_27 : cL_law.data.toList.drop 763 = dktL_law_27 := dk_seg dksL_law_26 24 rfl rfl
theorem dksL_law_28 : cL_law.data.toList.drop 787 = dktL_law_28 := dk_seg dksL_law_27 24 rfl rfl
theorem dksL_law_29 : cL_law.data.toList.drop 811 = dktL_law_29 := dk_seg dksL_law_28 24 rfl rfl
theorem dksL_law_30 : cL_law.data.toList.drop 835 = dktL_law_30 := dk_seg dksL_law_29 24 rfl rfl
theorem dksL_law_31 : cL_law.data.toList.drop 857 = dktL_law_31 := dk_seg dksL_law_30 22 rfl rfl
theorem dksL_law_32 : cL_law.data.toList.drop 880 = dktL_law_32 := dk_seg dksL_law_31 23 rfl rfl
theorem dksL_law_33 : cL_law.data.toList.drop 904 = dktL_law_33 := dk_seg dksL_law_32 24 rfl rfl
theorem dksL_law_34 : cL_law.data.toList.drop 928 = dktL_law_34 := dk_seg dksL_law_33 24 rfl rfl
theorem dksL_law_35 : cL_law.data.toList.drop 952 = dktL_law_35 := dk_seg dksL_law_34 24 rfl rfl
theorem dksL_law_36 : cL_law.data.toList.drop 976 = dktL_law_36 := dk_seg dksL_law_35 24 rfl rfl
theorem dksL_law_37 : cL_law.data.toList.drop 1000 = dktL_law_37 := dk_seg dksL_law_36 24 rfl rfl
theorem dksL_law_38 : cL_law.data.toList.drop 1024 = dktL_law_38 := dk_seg dksL_law_37 24 rfl rfl
theorem dksL_law_39 : cL_law.data.toList.drop 1048 = dktL_law_39 := dk_seg dksL_law_38 24 rfl rfl
theorem dksL_law_40 : cL_law.data.toList.drop 1072 = dktL_law_40 := dk_seg dksL_law_39 24 rfl rfl
theorem dksL_law_41 : cL_law.data.toList.drop 1096 = dktL_law_41 := dk_seg dksL_law_40 24 rfl rfl
theorem dksL_law_42 : cL_law.data.toList.drop 1120 = dktL_law_42 := dk_seg dksL_law_41 24 rfl rfl
theorem dksL_law_43 : cL_law.data.toList.drop 1144 = dktL_law_43 := dk_seg dksL_law_42 24 rfl rfl
theorem dksL_law_44 : cL_law.data.toList.drop 1168 = dktL_law_44 := dk_seg dksL_law_43 24 rfl rfl
theorem dksL_law_45 : cL_law.data.toList.drop 1192 = dktL_law_45 := dk_seg dksL_law_44 24 rfl rfl
theorem dksL_law_46 : cL_law.data.toList.drop 1216 = dktL_law_46 := dk_seg dksL_law_45 24 rfl rfl
theorem dksL_law_47 : cL_law.data.toList.drop 1238 = dktL_law_47 := dk_seg dksL_law_46 22 rfl rfl
theorem dksL_law_48 : cL_law.data.toList.drop 1262 = dktL_law_48 := dk_seg dksL_law_47 24 rfl rfl
theorem dksL_law_49 : cL_law.data.toList.drop 1286 = dktL_law_49 := dk_seg dksL_law_48 24 rfl rfl
theorem dL_law_0 : decode cL_law 0 = .ok (.new 7, 3) := dk_187 0 7 (dk_at dksL_law_0 0 rfl rfl)
theorem dL_law_3 : decode cL_law 3 = .ok (.dup, 1) := dk_89 (dk_at dksL_law_0 3 rfl rfl)
theorem dL_law_4 : decode cL_law 4 = .ok (.invokespecial 9, 3) := dk_183 0 9 (dk_at dksL_law_0 4 rfl rfl)
theorem dL_law_7 : decode cL_law 7 = .ok (.astore_n 1, 1) := dk_76 (dk_at dksL_law_0 7 rfl rfl)
theorem dL_law_8 : decode cL_law 8 = .ok (.new 10, 3) := dk_187 0 10 (dk_at dksL_law_0 8 rfl rfl)
theorem dL_law_11 : decode cL_law 11 = .ok (.dup, 1) := dk_89 (dk_at dksL_law_0 11 rfl rfl)
theorem dL_law_12 : decode cL_law 12 = .ok (.invokespecial 12, 3) := dk_183 0 12 (dk_at dksL_law_0 12 rfl rfl)
theorem dL_law_15 : decode cL_law 15 = .ok (.astore_n 2, 1) := dk_77 (dk_at dksL_law_0 15 rfl rfl)
theorem dL_law_16 : decode cL_law 16 = .ok (.iconst 0, 1) := dk_3 (dk_at dksL_law_0 16 rfl rfl)
theorem dL_law_17 : decode cL_law 17 = .ok (.istore_n 3, 1) := dk_62 (dk_at dksL_law_0 17 rfl rfl)
theorem dL_law_18 : decode cL_law 18 = .ok (.iload_n 3, 1) := dk_29 (dk_at dksL_law_0 18 rfl rfl)
theorem dL_law_19 : decode cL_law 19 = .ok (.aload_n 0, 1) := dk_42 (dk_at dksL_law_0 19 rfl rfl)
theorem dL_law_20 : decode cL_law 20 = .ok (.arraylength, 1) := dk_190 (dk_at dksL_law_0 20 rfl rfl)
theorem dL_law_21 : decode cL_law 21 = .ok (.bipush 6, 2) := dk_16 6 (dk_at dksL_law_0 21 rfl rfl)
theorem dL_law_23 : decode cL_law 23 = .ok (.isub, 1) := dk_100 (dk_at dksL_law_0 23 rfl rfl)
theorem dL_law_24 : decode cL_law 24 = .ok (.if_icmp .gt 1268, 3) := dk_163 4 244 (dk_at dksL_law_1 0 rfl rfl)
theorem dL_law_27 : decode cL_law 27 = .ok (.aload_n 0, 1) := dk_42 (dk_at dksL_law_1 3 rfl rfl)
theorem dL_law_28 : decode cL_law 28 = .ok (.iload_n 3, 1) := dk_29 (dk_at dksL_law_1 4 rfl rfl)
theorem dL_law_29 : decode cL_law 29 = .ok (.iaload, 1) := dk_46 (dk_at dksL_law_1 5 rfl rfl)
theorem dL_law_30 : decode cL_law 30 = .ok (.bipush 63, 2) := dk_16 63 (dk_at dksL_law_1 6 rfl rfl)
theorem dL_law_32 : decode cL_law 32 = .ok (.iand, 1) := dk_126 (dk_at dksL_law_1 8 rfl rfl)
theorem dL_law_33 : decode cL_law 33 = .ok (.tableswitch 1253 0 35 #[159, 182, 225, 268, 311, 334, 357, 380, 443, 466, 489, 512, 545, 578, 601, 634, 667, 700, 723, 756, 789, 832, 855, 908, 941, 964, 987, 1020, 1053, 1076, 1109, 1132, 1155, 1178, 1191, 1230], 159) := by decide +kernel
theorem dL_law_192 : decode cL_law 192 = .ok (.aload_n 1, 1) := dk_43 (dk_at dksL_law_3 0 rfl rfl)
theorem dL_law_193 : decode cL_law 193 = .ok (.aload_n 0, 1) := dk_42 (dk_at dksL_law_3 1 rfl rfl)
theorem dL_law_194 : decode cL_law 194 = .ok (.iload_n 3, 1) := dk_29 (dk_at dksL_law_3 2 rfl rfl)
theorem dL_law_195 : decode cL_law 195 = .ok (.iconst 1, 1) := dk_4 (dk_at dksL_law_3 3 rfl rfl)
theorem dL_law_196 : decode cL_law 196 = .ok (.iadd, 1) := dk_96 (dk_at dksL_law_3 4 rfl rfl)
theorem dL_law_197 : decode cL_law 197 = .ok (.iaload, 1) := dk_46 (dk_at dksL_law_3 5 rfl rfl)
theorem dL_law_198 : decode cL_law 198 = .ok (.invokevirtual 13, 3) := dk_182 0 13 (dk_at dksL_law_3 6 rfl rfl)
theorem dL_law_201 : decode cL_law 201 = .ok (.aload_n 2, 1) := dk_44 (dk_at dksL_law_3 9 rfl rfl)
theorem dL_law_202 : decode cL_law 202 = .ok (.aload_n 0, 1) := dk_42 (dk_at dksL_law_3 10 rfl rfl)
theorem dL_law_203 : decode cL_law 203 = .ok (.iload_n 3, 1) := dk_29 (dk_at dksL_law_3 11 rfl rfl)
theorem dL_law_204 : decode cL_law 204 = .ok (.iconst 1, 1) := dk_4 (dk_at dksL_law_3 12 rfl rfl)
theorem dL_law_205 : decode cL_law 205 = .ok (.iadd, 1) := dk_96 (dk_at dksL_law_3 13 rfl rfl)
theorem dL_law_206 : decode cL_law 206 = .ok (.iaload, 1) := dk_46 (dk_at dksL_law_3 14 rfl rfl)
theorem dL_law_207 : decode cL_law 207 = .ok (.invokevirtual 17, 3) := dk_182 0 17 (dk_at dksL_law_3 15 rfl rfl)
theorem dL_law_210 : decode cL_law 210 = .ok (.if_icmp .eq 1076, 3) := dk_159 4 52 (dk_at dksL_law_3 18 rfl rfl)
theorem dL_law_213 : decode cL_law 213 = .ok (.iconst 0, 1) := dk_3 (dk_at dksL_law_3 21 rfl rfl)
theorem dL_law_214 : decode cL_law 214 = .ok (.ireturn, 1) := dk_172 (dk_at dksL_law_3 22 rfl rfl)
theorem dL_law_215 : decode cL_law 215 = .ok (.aload_n 1, 1) := dk_43 (dk_at dksL_law_3 23 rfl rfl)
theorem dL_law_216 : decode cL_law 216 = .ok (.aload_n 0, 1) := dk_42 (dk_at dksL_law_4 0 rfl rfl)
theorem dL_law_217 : decode cL_law 217 = .ok (.iload_n 3, 1) := dk_29 (dk_at dksL_law_4 1 rfl rfl)
theorem dL_law_218 : decode cL_law 218 = .ok (.iconst 1, 1) := dk_4 (dk_at dksL_law_4 2 rfl rfl)
theorem dL_law_219 : decode cL_law 219 = .ok (.iadd, 1) := dk_96 (dk_at dksL_law_4 3 rfl rfl)
theorem dL_law_220 : decode cL_law 220 = .ok (.iaload, 1) := dk_46 (dk_at dksL_law_4 4 rfl rfl)
theorem dL_law_221 : decode cL_law 221 = .ok (.aload_n 0, 1) := dk_42 (dk_at dksL_law_4 5 rfl rfl)
theorem dL_law_222 : decode cL_law 222 = .ok (.iload_n 3, 1) := dk_29 (dk_at dksL_law_4 6 rfl rfl)
theorem dL_law_223 : decode cL_law 223 = .ok (.iconst 2, 1) := dk_5 (dk_at dksL_law_4 7 rfl rfl)
theorem dL_law_224 : decode cL_law 224 = .ok (.iadd, 1) := dk_96 (dk_at dksL_law_4 8 rfl rfl)
theorem dL_law_225 : decode cL_law 225 = .ok (.iaload, 1) := dk_46 (dk_at dksL_law_4 9 rfl rfl)
theorem dL_law_226 : decode cL_law 226 = .ok (.aload_n 0, 1) := dk_42 (dk_at dksL_law_4 10 rfl rfl)
theorem dL_law_227 : decode cL_law 227 = .ok (.iload_n 3, 1) := dk_29 (dk_at dksL_law_4 11 rfl rfl)
theorem dL_law_228 : decode cL_law 228 = .ok (.iconst 3, 1) := dk_6 (dk_at dksL_law_4 12 rfl rfl)
theorem dL_law_229 : decode cL_law 229 = .ok (.iadd, 1) := dk_96 (dk_at dksL_law_4 13 rfl rfl)
theorem dL_law_230 : decode cL_law 230 = .ok (.iaload, 1) := dk_46 (dk_at dksL_law_4 14 rfl rfl)
theorem dL_law_231 : decode cL_law 231 = .ok (.invokevirtual 18, 3) := dk_182 0 18 (dk_at dksL_law_4 15 rfl rfl)
theorem dL_law_234 : decode cL_law 234 = .ok (.aload_n 2, 1) := dk_44 (dk_at dksL_law_4 18 rfl rfl)
theorem dL_law_235 : decode cL_law 235 = .ok (.aload_n 0, 1) := dk_42 (dk_at dksL_law_4 19 rfl rfl)
theorem dL_law_236 : decode cL_law 236 = .ok (.iload_n 3, 1) := dk_29 (dk_at dksL_law_4 20 rfl rfl)
theorem dL_law_237 : decode cL_law 237 = .ok (.iconst 1, 1) := dk_4 (dk_at dksL_law_4 21 rfl rfl)
theorem dL_law_238 : decode cL_law 238 = .ok (.iadd, 1) := dk_96 (dk_at dksL_law_4 22 rfl rfl)
theorem dL_law_239 : decode cL_law 239 = .ok (.iaload, 1) := dk_46 (dk_at dksL_law_4 23 rfl rfl)
theorem dL_law_240 : decode cL_law 240 = .ok (.aload_n 0, 1) := dk_42 (dk_at dksL_law_5 0 rfl rfl)
theorem dL_law_241 : decode cL_law 241 = .ok (.iload_n 3, 1) := dk_29 (dk_at dksL_law_5 1 rfl rfl)
theorem dL_law_242 : decode cL_law 242 = .ok (.iconst 2, 1) := dk_5 (dk_at dksL_law_5 2 rfl rfl)
theorem dL_law_243 : decode cL_law 243 = .ok (.iadd, 1) := dk_96 (dk_at dksL_law_5 3 rfl rfl)
theorem dL_law_244 : decode cL_law 244 = .ok (.iaload, 1) := dk_46 (dk_at dksL_law_5 4 rfl rfl)
theorem dL_law_245 : decode cL_law 245 = .ok (.aload_n 0, 1) := dk_42 (dk_at dksL_law_5 5 rfl rfl)
theorem dL_law_246 : decode cL_law 246 = .ok (.iload_n 3, 1) := dk_29 (dk_at dksL_law_5 6 rfl rfl)
theorem dL_law_247 : decode cL_law 247 = .ok (.iconst 3, 1) := dk_6 (dk_at dksL_law_5 7 rfl rfl)
theorem dL_law_248 : decode cL_law 248 = .ok (.iadd, 1) := dk_96 (dk_at dksL_law_5 8 rfl rfl)
theorem dL_law_249 : decode cL_law 249 = .ok (.iaload, 1) := dk_46 (dk_at dksL_law_5 9 rfl rfl)
theorem dL_law_250 : decode cL_law 250 = .ok (.invokevirtual 22, 3) := dk_182 0 22 (dk_at dksL_law_5 10 rfl rfl)
theorem dL_law_253 : decode cL_law 253 = .ok (.if_icmp .eq 1033, 3) := dk_159 4 9 (dk_at dksL_law_5 13 rfl rfl)
theorem dL_law_256 : decode cL_law 256 = .ok (.iconst 0, 1) := dk_3 (dk_at dksL_law_5 16 rfl rfl)
theorem dL_law_257 : decode cL_law 257 = .ok (.ireturn, 1) := dk_172 (dk_at dksL_law_5 17 rfl rfl)
theorem dL_law_258 : decode cL_law 258 = .ok (.aload_n 1, 1) := dk_43 (dk_at dksL_law_5 18 rfl rfl)
theorem dL_law_259 : decode cL_law 259 = .ok (.aload_n 0, 1) := dk_42 (dk_at dksL_law_5 19 rfl rfl)
theorem dL_law_260 : decode cL_law 260 = .ok (.iload_n 3, 1) := dk_29 (dk_at dksL_law_5 20 rfl rfl)
theorem dL_law_261 : decode cL_law 261 = .ok (.iconst 1, 1) := dk_4 (dk_at dksL_law_5 21 rfl rfl)
theorem dL_law_262 : decode cL_law 262 = .ok (.iadd, 1) := dk_96 (dk_at dksL_law_5 22 rfl rfl)
theorem dL_law_263 : decode cL_law 263 = .ok (.iaload, 1) := dk_46 (dk_at dksL_law_5 23 rfl rfl)
theorem dL_law_264 : decode cL_law 264 = .ok (.aload_n 0, 1) := dk_42 (dk_at dksL_law_6 0 rfl rfl)
theorem dL_law_265 : decode cL_law 265 = .ok (.iload_n 3, 1) := dk_29 (dk_at dksL_law_6 1 rfl rfl)
theorem dL_law_266 : decode cL_law 266 = .ok (.iconst 2, 1) := dk_5 (dk_at dksL_law_6 2 rfl rfl)
theorem dL_law_267 : decode cL_law 267 = .ok (.iadd, 1) := dk_96 (dk_at dksL_law_6 3 rfl rfl)
theorem dL_law_268 : decode cL_law 268 = .ok (.iaload, 1) := dk_46 (dk_at dksL_law_6 4 rfl rfl)
theorem dL_law_269 : decode cL_law 269 = .ok (.aload_n 0, 1) := dk_42 (dk_at dksL_law_6 5 rfl rfl)
theorem dL_law_270 : decode cL_law 270 = .ok (.iload_n 3, 1) := dk_29 (dk_at dksL_law_6 6 rfl rfl)
theorem dL_law_271 : decode cL_law 271 = .ok (.iconst 3, 1) := dk_6 (dk_at dksL_law_6 7 rfl rfl)
theorem dL_law_272 : decode cL_law 272 = .ok (.iadd, 1) := dk_96 (dk_at dksL_law_6 8 rfl rfl)
theorem dL_law_273 : decode cL_law 273 = .ok (.iaload, 1) := dk_46 (dk_at dksL_law_6 9 rfl rfl)
theorem dL_law_274 : decode cL_law 274 = .ok (.invokevirtual 23, 3) := dk_182 0 23 (dk_at dksL_law_6 10 rfl rfl)
theorem dL_law_277 : decode cL_law 277 = .ok (.aload_n 2, 1) := dk_44 (dk_at dksL_law_6 13 rfl rfl)
theorem dL_law_278 : decode cL_law 278 = .ok (.aload_n 0, 1) := dk_42 (dk_at dksL_law_6 14 rfl rfl)
theorem dL_law_279 : decode cL_law 279 = .ok (.iload_n 3, 1) := dk_29 (dk_at dksL_law_6 15 rfl rfl)
theorem dL_law_280 : decode cL_law 280 = .ok (.iconst 1, 1) := dk_4 (dk_at dksL_law_6 16 rfl rfl)
theorem dL_law_281 : decode cL_law 281 = .ok (.iadd, 1) := dk_96 (dk_at dksL_law_6 17 rfl rfl)
theorem dL_law_282 : decode cL_law 282 = .ok (.iaload, 1) := dk_46 (dk_at dksL_law_6 18 rfl rfl)
theorem dL_law_283 : decode cL_law 283 = .ok (.aload_n 0, 1) := dk_42 (dk_at dksL_law_6 19 rfl rfl)
theorem dL_law_284 : decode cL_law 284 = .ok (.iload_n 3, 1) := dk_29 (dk_at dksL_law_6 20 rfl rfl)
theorem dL_law_285 : decode cL_law 285 = .ok (.iconst 2, 1) := dk_5 (dk_at dksL_law_6 21 rfl rfl)
theorem dL_law_286 : decode cL_law 286 = .ok (.iadd, 1) := dk_96 (dk_at dksL_law_6 22 rfl rfl)
theorem dL_law_287 : decode cL_law 287 = .ok (.iaload, 1) := dk_46 (dk_at dksL_law_6 23 rfl rfl)
theorem dL_law_288 : decode cL_law 288 = .ok (.aload_n 0, 1) := dk_42 (dk_at dksL_law_7 0 rfl rfl)
theorem dL_law_289 : decode cL_law 289 = .ok (.iload_n 3, 1) := dk_29 (dk_at dksL_law_7 1 rfl rfl)
theorem dL_law_290 : decode cL_law 290 = .ok (.iconst 3, 1) := dk_6 (dk_at dksL_law_7 2 rfl rfl)
theorem dL_law_291 : decode cL_law 291 = .ok (.iadd, 1) := dk_96 (dk_at dksL_law_7 3 rfl rfl)
theorem dL_law_292 : decode cL_law 292 = .ok (.iaload, 1) := dk_46 (dk_at dksL_law_7 4 rfl rfl)
theorem dL_law_293 : decode cL_law 293 = .ok (.invokevirtual 27, 3) := dk_182 0 27 (dk_at dksL_law_7 5 rfl rfl)
theorem dL_law_296 : decode cL_law 296 = .ok (.if_icmp .eq 990, 3) := dk_159 3 222 (dk_at dksL_law_7 8 rfl rfl)
theorem dL_law_299 : decode cL_law 299 = .ok (.iconst 0, 1) := dk_3 (dk_at dksL_law_7 11 rfl rfl)
theorem dL_law_300 : decode cL_law 300 = .ok (.ireturn, 1) := dk_172 (dk_at dksL_law_7 12 rfl rfl)
theorem dL_law_301 : decode cL_law 301 = .ok (.aload_n 1, 1) := dk_43 (dk_at dksL_law_7 13 rfl rfl)
theorem dL_law_302 : decode cL_law 302 = .ok (.aload_n 0, 1) := dk_42 (dk_at dksL_law_7 14 rfl rfl)
theorem dL_law_303 : decode cL_law 303 = .ok (.iload_n 3, 1) := dk_29 (dk_at dksL_law_7 15 rfl rfl)
theorem dL_law_304 : decode cL_law 304 = .ok (.iconst 1, 1) := dk_4 (dk_at dksL_law_7 16 rfl rfl)
theorem dL_law_305 : decode cL_law 305 = .ok (.iadd, 1) := dk_96 (dk_at dksL_law_7 17 rfl rfl)
theorem dL_law_306 : decode cL_law 306 = .ok (.iaload, 1) := dk_46 (dk_at dksL_law_7 18 rfl rfl)
theorem dL_law_307 : decode cL_law 307 = .ok (.aload_n 0, 1) := dk_42 (dk_at dksL_law_7 19 rfl rfl)
theorem dL_law_308 : decode cL_law 308 = .ok (.iload_n 3, 1) := dk_29 (dk_at dksL_law_7 20 rfl rfl)
theorem dL_law_309 : decode cL_law 309 = .ok (.iconst 2, 1) := dk_5 (dk_at dksL_law_7 21 rfl rfl)
theorem dL_law_310 : decode cL_law 310 = .ok (.iadd, 1) := dk_96 (dk_at dksL_law_7 22 rfl rfl)
theorem dL_law_311 : decode cL_law 311 = .ok (.iaload, 1) := dk_46 (dk_at dksL_law_7 23 rfl rfl)
theorem dL_law_312 : decode cL_law 312 = .ok (.aload_n 0, 1) := dk_42 (dk_at dksL_law_8 0 rfl rfl)
theorem dL_law_313 : decode cL_law 313 = .ok (.iload_n 3, 1) := dk_29 (dk_at dksL_law_8 1 rfl rfl)
theorem dL_law_314 : decode cL_law 314 = .ok (.iconst 3, 1) := dk_6 (dk_at dksL_law_8 2 rfl rfl)
theorem dL_law_315 : decode cL_law 315 = .ok (.iadd, 1) := dk_96 (dk_at dksL_law_8 3 rfl rfl)
theorem dL_law_316 : decode cL_law 316 = .ok (.iaload, 1) := dk_46 (dk_at dksL_law_8 4 rfl rfl)
theorem dL_law_317 : decode cL_law 317 = .ok (.invokevirtual 28, 3) := dk_182 0 28 (dk_at dksL_law_8 5 rfl rfl)
theorem dL_law_320 : decode cL_law 320 = .ok (.aload_n 2, 1) := dk_44 (dk_at dksL_law_8 8 rfl rfl)
theorem dL_law_321 : decode cL_law 321 = .ok (.aload_n 0, 1) := dk_42 (dk_at dksL_law_8 9 rfl rfl)
theorem dL_law_322 : decode cL_law 322 = .ok (.iload_n 3, 1) := dk_29 (dk_at dksL_law_8 10 rfl rfl)
theorem dL_law_323 : decode cL_law 323 = .ok (.iconst 1, 1) := dk_4 (dk_at dksL_law_8 11 rfl rfl)
theorem dL_law_324 : decode cL_law 324 = .ok (.iadd, 1) := dk_96 (dk_at dksL_law_8 12 rfl rfl)
theorem dL_law_325 : decode cL_law 325 = .ok (.iaload, 1) := dk_46 (dk_at dksL_law_8 13 rfl rfl)
theorem dL_law_326 : decode cL_law 326 = .ok (.aload_n 0, 1) := dk_42 (dk_at dksL_law_8 14 rfl rfl)
theorem dL_law_327 : decode cL_law 327 = .ok (.iload_n 3, 1) := dk_29 (dk_at dksL_law_8 15 rfl rfl)
theorem dL_law_328 : decode cL_law 328 = .ok (.iconst 2, 1) := dk_5 (dk_at dksL_law_8 16 rfl rfl)
theorem dL_law_329 : decode cL_law 329 = .ok (.iadd, 1) := dk_96 (dk_at dksL_law_8 17 rfl rfl)
theorem dL_law_330 : decode cL_law 330 = .ok (.iaload, 1) := dk_46 (dk_at dksL_law_8 18 rfl rfl)
theorem dL_law_331 : decode cL_law 331 = .ok (.aload_n 0, 1) := dk_42 (dk_at dksL_law_8 19 rfl rfl)
theorem dL_law_332 : decode cL_law 332 = .ok (.iload_n 3, 1) := dk_29 (dk_at dksL_law_8 20 rfl rfl)
theorem dL_law_333 : decode cL_law 333 = .ok (.iconst 3, 1) := dk_6 (dk_at dksL_law_8 21 rfl rfl)
theorem dL_law_334 : decode cL_law 334 = .ok (.iadd, 1) := dk_96 (dk_at dksL_law_8 22 rfl rfl)
theorem dL_law_335 : decode cL_law 335 = .ok (.iaload, 1) := dk_46 (dk_at dksL_law_8 23 rfl rfl)
theorem dL_law_336 : decode cL_law 336 = .ok (.invokevirtual 31, 3) := dk_182 0 31 (dk_at dksL_law_9 0 rfl rfl)
theorem dL_law_339 : decode cL_law 339 = .ok (.if_icmp .eq 947, 3) := dk_159 3 179 (dk_at dksL_law_9 3 rfl rfl)
theorem dL_law_342 : decode cL_law 342 = .ok (.iconst 0, 1) := dk_3 (dk_at dksL_law_9 6 rfl rfl)
theorem dL_law_343 : decode cL_law 343 = .ok (.ireturn, 1) := dk_172 (dk_at dksL_law_9 7 rfl rfl)
theorem dL_law_344 : decode cL_law 344 = .ok (.aload_n 1, 1) := dk_43 (dk_at dksL_law_9 8 rfl rfl)
theorem dL_law_345 : decode cL_law 345 = .ok (.aload_n 0, 1) := dk_42 (dk_at dksL_law_9 9 rfl rfl)
theorem dL_law_346 : decode cL_law 346 = .ok (.iload_n 3, 1) := dk_29 (dk_at dksL_law_9 10 rfl rfl)
theorem dL_law_347 : decode cL_law 347 = .ok (.iconst 1, 1) := dk_4 (dk_at dksL_law_9 11 rfl rfl)
theorem dL_law_348 : decode cL_law 348 = .ok (.iadd, 1) := dk_96 (dk_at dksL_law_9 12 rfl rfl)
theorem dL_law_349 : decode cL_law 349 = .ok (.iaload, 1) := dk_46 (dk_at dksL_law_9 13 rfl rfl)
theorem dL_law_350 : decode cL_law 350 = .ok (.invokevirtual 32, 3) := dk_182 0 32 (dk_at dksL_law_9 14 rfl rfl)
theorem dL_law_353 : decode cL_law 353 = .ok (.aload_n 2, 1) := dk_44 (dk_at dksL_law_9 17 rfl rfl)
theorem dL_law_354 : decode cL_law 354 = .ok (.aload_n 0, 1) := dk_42 (dk_at dksL_law_9 18 rfl rfl)
theorem dL_law_355 : decode cL_law 355 = .ok (.iload_n 3, 1) := dk_29 (dk_at dksL_law_9 19 rfl rfl)
theorem dL_law_356 : decode cL_law 356 = .ok (.iconst 1, 1) := dk_4 (dk_at dksL_law_9 20 rfl rfl)
theorem dL_law_357 : decode cL_law 357 = .ok (.iadd, 1) := dk_96 (dk_at dksL_law_9 21 rfl rfl)
theorem dL_law_358 : decode cL_law 358 = .ok (.iaload, 1) := dk_46 (dk_at dksL_law_9 22 rfl rfl)
theorem dL_law_359 : decode cL_law 359 = .ok (.invokevirtual 35, 3) := dk_182 0 35 (dk_at dksL_law_10 0 rfl rfl)
theorem dL_law_362 : decode cL_law 362 = .ok (.if_icmp .eq 924, 3) := dk_159 3 156 (dk_at dksL_law_10 3 rfl rfl)
theorem dL_law_365 : decode cL_law 365 = .ok (.iconst 0, 1) := dk_3 (dk_at dksL_law_10 6 rfl rfl)
theorem dL_law_366 : decode cL_law 366 = .ok (.ireturn, 1) := dk_172 (dk_at dksL_law_10 7 rfl rfl)
theorem dL_law_367 : decode cL_law 367 = .ok (.aload_n 1, 1) := dk_43 (dk_at dksL_law_10 8 rfl rfl)
theorem dL_law_368 : decode cL_law 368 = .ok (.aload_n 0, 1) := dk_42 (dk_at dksL_law_10 9 rfl rfl)
theorem dL_law_369 : decode cL_law 369 = .ok (.iload_n 3, 1) := dk_29 (dk_at dksL_law_10 10 rfl rfl)
theorem dL_law_370 : decode cL_law 370 = .ok (.iconst 1, 1) := dk_4 (dk_at dksL_law_10 11 rfl rfl)
theorem dL_law_371 : decode cL_law 371 = .ok (.iadd, 1) := dk_96 (dk_at dksL_law_10 12 rfl rfl)
theorem dL_law_372 : decode cL_law 372 = .ok (.iaload, 1) := dk_46 (dk_at dksL_law_10 13 rfl rfl)
theorem dL_law_373 : decode cL_law 373 = .ok (.invokevirtual 36, 3) := dk_182 0 36 (dk_at dksL_law_10 14 rfl rfl)
theorem dL_law_376 : decode cL_law 376 = .ok (.aload_n 2, 1) := dk_44 (dk_at dksL_law_10 17 rfl rfl)
theorem dL_law_377 : decode cL_law 377 = .ok (.aload_n 0, 1) := dk_42 (dk_at dksL_law_10 18 rfl rfl)
theorem dL_law_378 : decode cL_law 378 = .ok (.iload_n 3, 1) := dk_29 (dk_at dksL_law_10 19 rfl rfl)
theorem dL_law_379 : decode cL_law 379 = .ok (.iconst 1, 1) := dk_4 (dk_at dksL_law_10 20 rfl rfl)
theorem dL_law_380 : decode cL_law 380 = .ok (.iadd, 1) := dk_96 (dk_at dksL_law_10 21 rfl rfl)
theorem dL_law_381 : decode cL_law 381 = .ok (.iaload, 1) := dk_46 (dk_at dksL_law_10 22 rfl rfl)
theorem dL_law_382 : decode cL_law 382 = .ok (.invokevirtual 40, 3) := dk_182 0 40 (dk_at dksL_law_11 0 rfl rfl)
theorem dL_law_385 : decode cL_law 385 = .ok (.if_icmp .eq 901, 3) := dk_159 3 133 (dk_at dksL_law_11 3 rfl rfl)
theorem dL_law_388 : decode cL_law 388 = .ok (.iconst 0, 1) := dk_3 (dk_at dksL_law_11 6 rfl rfl)
theorem dL_law_389 : decode cL_law 389 = .ok (.ireturn, 1) := dk_172 (dk_at dksL_law_11 7 rfl rfl)
theorem dL_law_390 : decode cL_law 390 = .ok (.aload_n 1, 1) := dk_43 (dk_at dksL_law_11 8 rfl rfl)
theorem dL_law_391 : decode cL_law 391 = .ok (.aload_n 0, 1) := dk_42 (dk_at dksL_law_11 9 rfl rfl)
theorem dL_law_392 : decode cL_law 392 = .ok (.iload_n 3, 1) := dk_29 (dk_at dksL_law_11 10 rfl rfl)
theorem dL_law_393 : decode cL_law 393 = .ok (.iconst 1, 1) := dk_4 (dk_at dksL_law_11 11 rfl rfl)
theorem dL_law_394 : decode cL_law 394 = .ok (.iadd, 1) := dk_96 (dk_at dksL_law_11 12 rfl rfl)
theorem dL_law_395 : decode cL_law 395 = .ok (.iaload, 1) := dk_46 (dk_at dksL_law_11 13 rfl rfl)
theorem dL_law_396 : decode cL_law 396 = .ok (.invokevirtual 41, 3) := dk_182 0 41 (dk_at dksL_law_11 14 rfl rfl)
theorem dL_law_399 : decode cL_law 399 = .ok (.aload_n 2, 1) := dk_44 (dk_at dksL_law_11 17 rfl rfl)
theorem dL_law_400 : decode cL_law 400 = .ok (.aload_n 0, 1) := dk_42 (dk_at dksL_law_11 18 rfl rfl)
theorem dL_law_401 : decode cL_law 401 = .ok (.iload_n 3, 1) := dk_29 (dk_at dksL_law_11 19 rfl rfl)
theorem dL_law_402 : decode cL_law 402 = .ok (.iconst 1, 1) := dk_4 (dk_at dksL_law_11 20 rfl rfl)
theorem dL_law_403 : decode cL_law 403 = .ok (.iadd, 1) := dk_96 (dk_at dksL_law_11 21 rfl rfl)
theorem dL_law_404 : decode cL_law 404 = .ok (.iaload, 1) := dk_46 (dk_at dksL_law_11 22 rfl rfl)
theorem dL_law_405 : decode cL_law 405 = .ok (.invokevirtual 44, 3) := dk_182 0 44 (dk_at dksL_law_12 0 rfl rfl)
theorem dL_law_408 : decode cL_law 408 = .ok (.if_icmp .eq 878, 3) := dk_159 3 110 (dk_at dksL_law_12 3 rfl rfl)
theorem dL_law_411 : decode cL_law 411 = .ok (.iconst 0, 1) := dk_3 (dk_at dksL_law_12 6 rfl rfl)
theorem dL_law_412 : decode cL_law 412 = .ok (.ireturn, 1) := dk_172 (dk_at dksL_law_12 7 rfl rfl)
theorem dL_law_413 : decode cL_law 413 = .ok (.aload_n 1, 1) := dk_43 (dk_at dksL_law_12 8 rfl rfl)
theorem dL_law_414 : decode cL_law 414 = .ok (.aload_n 0, 1) := dk_42 (dk_at dksL_law_12 9 rfl rfl)
theorem dL_law_415 : decode cL_law 415 = .ok (.iload_n 3, 1) := dk_29 (dk_at dksL_law_12 10 rfl rfl)
theorem dL_law_416 : decode cL_law 416 = .ok (.iconst 1, 1) := dk_4 (dk_at dksL_law_12 11 rfl rfl)
theorem dL_law_417 : decode cL_law 417 = .ok (.iadd, 1) := dk_96 (dk_at dksL_law_12 12 rfl rfl)
theorem dL_law_418 : decode cL_law 418 = .ok (.iaload, 1) := dk_46 (dk_at dksL_law_12 13 rfl rfl)
theorem dL_law_419 : decode cL_law 419 = .ok (.aload_n 0, 1) := dk_42 (dk_at dksL_law_12 14 rfl rfl)
theorem dL_law_420 : decode cL_law 420 = .ok (.iload_n 3, 1) := dk_29 (dk_at dksL_law_12 15 rfl rfl)
theorem dL_law_421 : decode cL_law 421 = .ok (.iconst 2, 1) := dk_5 (dk_at dksL_law_12 16 rfl rfl)
theorem dL_law_422 : decode cL_law 422 = .ok (.iadd, 1) := dk_96 (dk_at dksL_law_12 17 rfl rfl)
theorem dL_law_423 : decode cL_law 423 = .ok (.iaload, 1) := dk_46 (dk_at dksL_law_12 18 rfl rfl)
theorem dL_law_424 : decode cL_law 424 = .ok (.aload_n 0, 1) := dk_42 (dk_at dksL_law_12 19 rfl rfl)
theorem dL_law_425 : decode cL_law 425 = .ok (.iload_n 3, 1) := dk_29 (dk_at dksL_law_12 20 rfl rfl)
theorem dL_law_426 : decode cL_law 426 = .ok (.iconst 3, 1) := dk_6 (dk_at dksL_law_12 21 rfl rfl)
theorem dL_law_427 : decode cL_law 427 = .ok (.iadd, 1) := dk_96 (dk_at dksL_law_12 22 rfl rfl)
theorem dL_law_428 : decode cL_law 428 = .ok (.iaload, 1) := dk_46 (dk_at dksL_law_12 23 rfl rfl)
theorem dL_law_429 : decode cL_law 429 = .ok (.aload_n 0, 1) := dk_42 (dk_at dksL_law_13 0 rfl rfl)
theorem dL_law_430 : decode cL_law 430 = .ok (.iload_n 3, 1) := dk_29 (dk_at dksL_law_13 1 rfl rfl)
theorem dL_law_431 : decode cL_law 431 = .ok (.iconst 4, 1) := dk_7 (dk_at dksL_law_13 2 rfl rfl)
theorem dL_law_432 : decode cL_law 432 = .ok (.iadd, 1) := dk_96 (dk_at dksL_law_13 3 rfl rfl)
theorem dL_law_433 : decode cL_law 433 = .ok (.iaload, 1) := dk_46 (dk_at dksL_law_13 4 rfl rfl)
theorem dL_law_434 : decode cL_law 434 = .ok (.aload_n 0, 1) := dk_42 (dk_at dksL_law_13 5 rfl rfl)
theorem dL_law_435 : decode cL_law 435 = .ok (.iload_n 3, 1) := dk_29 (dk_at dksL_law_13 6 rfl rfl)
theorem dL_law_436 : decode cL_law 436 = .ok (.iconst 5, 1) := dk_8 (dk_at dksL_law_13 7 rfl rfl)
theorem dL_law_437 : decode cL_law 437 = .ok (.iadd, 1) := dk_96 (dk_at dksL_law_13 8 rfl rfl)
theorem dL_law_438 : decode cL_law 438 = .ok (.iaload, 1) := dk_46 (dk_at dksL_law_13 9 rfl rfl)
theorem dL_law_439 : decode cL_law 439 = .ok (.invokevirtual 45, 3) := dk_182 0 45 (dk_at dksL_law_13 10 rfl rfl)
theorem dL_law_442 : decode cL_law 442 = .ok (.aload_n 2, 1) := dk_44 (dk_at dksL_law_13 13 rfl rfl)
theorem dL_law_443 : decode cL_law 443 = .ok (.aload_n 0, 1) := dk_42 (dk_at dksL_law_13 14 rfl rfl)
theorem dL_law_444 : decode cL_law 444 = .ok (.iload_n 3, 1) := dk_29 (dk_at dksL_law_13 15 rfl rfl)
theorem dL_law_445 : decode cL_law 445 = .ok (.iconst 1, 1) := dk_4 (dk_at dksL_law_13 16 rfl rfl)
theorem dL_law_446 : decode cL_law 446 = .ok (.iadd, 1) := dk_96 (dk_at dksL_law_13 17 rfl rfl)
theorem dL_law_447 : decode cL_law 447 = .ok (.iaload, 1) := dk_46 (dk_at dksL_law_13 18 rfl rfl)
theorem dL_law_448 : decode cL_law 448 = .ok (.aload_n 0, 1) := dk_42 (dk_at dksL_law_13 19 rfl rfl)
theorem dL_law_449 : decode cL_law 449 = .ok (.iload_n 3, 1) := dk_29 (dk_at dksL_law_13 20 rfl rfl)
theorem dL_law_450 : decode cL_law 450 = .ok (.iconst 2, 1) := dk_5 (dk_at dksL_law_13 21 rfl rfl)
theorem dL_law_451 : decode cL_law 451 = .ok (.iadd, 1) := dk_96 (dk_at dksL_law_13 22 rfl rfl)
theorem dL_law_452 : decode cL_law 452 = .ok (.iaload, 1) := dk_46 (dk_at dksL_law_13 23 rfl rfl)
theorem dL_law_453 : decode cL_law 453 = .ok (.aload_n 0, 1) := dk_42 (dk_at dksL_law_14 0 rfl rfl)
theorem dL_law_454 : decode cL_law 454 = .ok (.iload_n 3, 1) := dk_29 (dk_at dksL_law_14 1 rfl rfl)
theorem dL_law_455 : decode cL_law 455 = .ok (.iconst 3, 1) := dk_6 (dk_at dksL_law_14 2 rfl rfl)
theorem dL_law_456 : decode cL_law 456 = .ok (.iadd, 1) := dk_96 (dk_at dksL_law_14 3 rfl rfl)
theorem dL_law_457 : decode cL_law 457 = .ok (.iaload, 1) := dk_46 (dk_at dksL_law_14 4 rfl rfl)
theorem dL_law_458 : decode cL_law 458 = .ok (.aload_n 0, 1) := dk_42 (dk_at dksL_law_14 5 rfl rfl)
theorem dL_law_459 : decode cL_law 459 = .ok (.iload_n 3, 1) := dk_29 (dk_at dksL_law_14 6 rfl rfl)
theorem dL_law_460 : decode cL_law 460 = .ok (.iconst 4, 1) := dk_7 (dk_at dksL_law_14 7 rfl rfl)
theorem dL_law_461 : decode cL_law 461 = .ok (.iadd, 1) := dk_96 (dk_at dksL_law_14 8 rfl rfl)
theorem dL_law_462 : decode cL_law 462 = .ok (.iaload, 1) := dk_46 (dk_at dksL_law_14 9 rfl rfl)
theorem dL_law_463 : decode cL_law 463 = .ok (.aload_n 0, 1) := dk_42 (dk_at dksL_law_14 10 rfl rfl)
theorem dL_law_464 : decode cL_law 464 = .ok (.iload_n 3, 1) := dk_29 (dk_at dksL_law_14 11 rfl rfl)
theorem dL_law_465 : decode cL_law 465 = .ok (.iconst 5, 1) := dk_8 (dk_at dksL_law_14 12 rfl rfl)
theorem dL_law_466 : decode cL_law 466 = .ok (.iadd, 1) := dk_96 (dk_at dksL_law_14 13 rfl rfl)
theorem dL_law_467 : decode cL_law 467 = .ok (.iaload, 1) := dk_46 (dk_at dksL_law_14 14 rfl rfl)
theorem dL_law_468 : decode cL_law 468 = .ok (.invokevirtual 49, 3) := dk_182 0 49 (dk_at dksL_law_14 15 rfl rfl)
theorem dL_law_471 : decode cL_law 471 = .ok (.if_icmp .eq 815, 3) := dk_159 3 47 (dk_at dksL_law_14 18 rfl rfl)
theorem dL_law_474 : decode cL_law 474 = .ok (.iconst 0, 1) := dk_3 (dk_at dksL_law_14 21 rfl rfl)
theorem dL_law_475 : decode cL_law 475 = .ok (.ireturn, 1) := dk_172 (dk_at dksL_law_14 22 rfl rfl)
theorem dL_law_476 : decode cL_law 476 = .ok (.aload_n 1, 1) := dk_43 (dk_at dksL_law_14 23 rfl rfl)
theorem dL_law_477 : decode cL_law 477 = .ok (.aload_n 0, 1) := dk_42 (dk_at dksL_law_15 0 rfl rfl)
theorem dL_law_478 : decode cL_law 478 = .ok (.iload_n 3, 1) := dk_29 (dk_at dksL_law_15 1 rfl rfl)
theorem dL_law_479 : decode cL_law 479 = .ok (.iconst 1, 1) := dk_4 (dk_at dksL_law_15 2 rfl rfl)
theorem dL_law_480 : decode cL_law 480 = .ok (.iadd, 1) := dk_96 (dk_at dksL_law_15 3 rfl rfl)
theorem dL_law_481 : decode cL_law 481 = .ok (.iaload, 1) := dk_46 (dk_at dksL_law_15 4 rfl rfl)
theorem dL_law_482 : decode cL_law 482 = .ok (.invokevirtual 50, 3) := dk_182 0 50 (dk_at dksL_law_15 5 rfl rfl)
theorem dL_law_485 : decode cL_law 485 = .ok (.aload_n 2, 1) := dk_44 (dk_at dksL_law_15 8 rfl rfl)
theorem dL_law_486 : decode cL_law 486 = .ok (.aload_n 0, 1) := dk_42 (dk_at dksL_law_15 9 rfl rfl)
theorem dL_law_487 : decode cL_law 487 = .ok (.iload_n 3, 1) := dk_29 (dk_at dksL_law_15 10 rfl rfl)
theorem dL_law_488 : decode cL_law 488 = .ok (.iconst 1, 1) := dk_4 (dk_at dksL_law_15 11 rfl rfl)
theorem dL_law_489 : decode cL_law 489 = .ok (.iadd, 1) := dk_96 (dk_at dksL_law_15 12 rfl rfl)
theorem dL_law_490 : decode cL_law 490 = .ok (.iaload, 1) := dk_46 (dk_at dksL_law_15 13 rfl rfl)
theorem dL_law_491 : decode cL_law 491 = .ok (.invokevirtual 53, 3) := dk_182 0 53 (dk_at dksL_law_15 14 rfl rfl)
theorem dL_law_494 : decode cL_law 494 = .ok (.if_icmp .eq 792, 3) := dk_159 3 24 (dk_at dksL_law_15 17 rfl rfl)
theorem dL_law_497 : decode cL_law 497 = .ok (.iconst 0, 1) := dk_3 (dk_at dksL_law_15 20 rfl rfl)
theorem dL_law_498 : decode cL_law 498 = .ok (.ireturn, 1) := dk_172 (dk_at dksL_law_15 21 rfl rfl)
theorem dL_law_499 : decode cL_law 499 = .ok (.aload_n 1, 1) := dk_43 (dk_at dksL_law_15 22 rfl rfl)
theorem dL_law_500 : decode cL_law 500 = .ok (.aload_n 0, 1) := dk_42 (dk_at dksL_law_15 23 rfl rfl)
theorem dL_law_501 : decode cL_law 501 = .ok (.iload_n 3, 1) := dk_29 (dk_at dksL_law_16 0 rfl rfl)
theorem dL_law_502 : decode cL_law 502 = .ok (.iconst 1, 1) := dk_4 (dk_at dksL_law_16 1 rfl rfl)
theorem dL_law_503 : decode cL_law 503 = .ok (.iadd, 1) := dk_96 (dk_at dksL_law_16 2 rfl rfl)
theorem dL_law_504 : decode cL_law 504 = .ok (.iaload, 1) := dk_46 (dk_at dksL_law_16 3 rfl rfl)
theorem dL_law_505 : decode cL_law 505 = .ok (.invokevirtual 54, 3) := dk_182 0 54 (dk_at dksL_law_16 4 rfl rfl)
theorem dL_law_508 : decode cL_law 508 = .ok (.aload_n 2, 1) := dk_44 (dk_at dksL_law_16 7 rfl rfl)
theorem dL_law_509 : decode cL_law 509 = .ok (.aload_n 0, 1) := dk_42 (dk_at dksL_law_16 8 rfl rfl)
theorem dL_law_510 : decode cL_law 510 = .ok (.iload_n 3, 1) := dk_29 (dk_at dksL_law_16 9 rfl rfl)
theorem dL_law_511 : decode cL_law 511 = .ok (.iconst 1, 1) := dk_4 (dk_at dksL_law_16 10 rfl rfl)
theorem dL_law_512 : decode cL_law 512 = .ok (.iadd, 1) := dk_96 (dk_at dksL_law_16 11 rfl rfl)
theorem dL_law_513 : decode cL_law 513 = .ok (.iaload, 1) := dk_46 (dk_at dksL_law_16 12 rfl rfl)
theorem dL_law_514 : decode cL_law 514 = .ok (.invokevirtual 57, 3) := dk_182 0 57 (dk_at dksL_law_16 13 rfl rfl)
theorem dL_law_517 : decode cL_law 517 = .ok (.if_icmp .eq 769, 3) := dk_159 3 1 (dk_at dksL_law_16 16 rfl rfl)
theorem dL_law_520 : decode cL_law 520 = .ok (.iconst 0, 1) := dk_3 (dk_at dksL_law_16 19 rfl rfl)
theorem dL_law_521 : decode cL_law 521 = .ok (.ireturn, 1) := dk_172 (dk_at dksL_law_16 20 rfl rfl)
theorem dL_law_522 : decode cL_law 522 = .ok (.aload_n 1, 1) := dk_43 (dk_at dksL_law_16 21 rfl rfl)
theorem dL_law_523 : decode cL_law 523 = .ok (.aload_n 0, 1) := dk_42 (dk_at dksL_law_16 22 rfl rfl)
theorem dL_law_524 : decode cL_law 524 = .ok (.iload_n 3, 1) := dk_29 (dk_at dksL_law_16 23 rfl rfl)
theorem dL_law_525 : decode cL_law 525 = .ok (.iconst 1, 1) := dk_4 (dk_at dksL_law_17 0 rfl rfl)
theorem dL_law_526 : decode cL_law 526 = .ok (.iadd, 1) := dk_96 (dk_at dksL_law_17 1 rfl rfl)
theorem dL_law_527 : decode cL_law 527 = .ok (.iaload, 1) := dk_46 (dk_at dksL_law_17 2 rfl rfl)
theorem dL_law_528 : decode cL_law 528 = .ok (.invokevirtual 58, 3) := dk_182 0 58 (dk_at dksL_law_17 3 rfl rfl)
theorem dL_law_531 : decode cL_law 531 = .ok (.aload_n 2, 1) := dk_44 (dk_at dksL_law_17 6 rfl rfl)
theorem dL_law_532 : decode cL_law 532 = .ok (.aload_n 0, 1) := dk_42 (dk_at dksL_law_17 7 rfl rfl)
theorem dL_law_533 : decode cL_law 533 = .ok (.iload_n 3, 1) := dk_29 (dk_at dksL_law_17 8 rfl rfl)
theorem dL_law_534 : decode cL_law 534 = .ok (.iconst 1, 1) := dk_4 (dk_at dksL_law_17 9 rfl rfl)
theorem dL_law_535 : decode cL_law 535 = .ok (.iadd, 1) := dk_96 (dk_at dksL_law_17 10 rfl rfl)
theorem dL_law_536 : decode cL_law 536 = .ok (.iaload, 1) := dk_46 (dk_at dksL_law_17 11 rfl rfl)
theorem dL_law_537 : decode cL_law 537 = .ok (.invokevirtual 61, 3) := dk_182 0 61 (dk_at dksL_law_17 12 rfl rfl)
theorem dL_law_540 : decode cL_law 540 = .ok (.if_icmp .eq 746, 3) := dk_159 2 234 (dk_at dksL_law_17 15 rfl rfl)
theorem dL_law_543 : decode cL_law 543 = .ok (.iconst 0, 1) := dk_3 (dk_at dksL_law_17 18 rfl rfl)
theorem dL_law_544 : decode cL_law 544 = .ok (.ireturn, 1) := dk_172 (dk_at dksL_law_17 19 rfl rfl)
theorem dL_law_545 : decode cL_law 545 = .ok (.aload_n 1, 1) := dk_43 (dk_at dksL_law_17 20 rfl rfl)
theorem dL_law_546 : decode cL_law 546 = .ok (.aload_n 0, 1) := dk_42 (dk_at dksL_law_17 21 rfl rfl)
theorem dL_law_547 : decode cL_law 547 = .ok (.iload_n 3, 1) := dk_29 (dk_at dksL_law_17 22 rfl rfl)
theorem dL_law_548 : decode cL_law 548 = .ok (.iconst 1, 1) := dk_4 (dk_at dksL_law_17 23 rfl rfl)
theorem dL_law_549 : decode cL_law 549 = .ok (.iadd, 1) := dk_96 (dk_at dksL_law_18 0 rfl rfl)
theorem dL_law_550 : decode cL_law 550 = .ok (.iaload, 1) := dk_46 (dk_at dksL_law_18 1 rfl rfl)
theorem dL_law_551 : decode cL_law 551 = .ok (.aload_n 0, 1) := dk_42 (dk_at dksL_law_18 2 rfl rfl)
theorem dL_law_552 : decode cL_law 552 = .ok (.iload_n 3, 1) := dk_29 (dk_at dksL_law_18 3 rfl rfl)
theorem dL_law_553 : decode cL_law 553 = .ok (.iconst 2, 1) := dk_5 (dk_at dksL_law_18 4 rfl rfl)
theorem dL_law_554 : decode cL_law 554 = .ok (.iadd, 1) := dk_96 (dk_at dksL_law_18 5 rfl rfl)
theorem dL_law_555 : decode cL_law 555 = .ok (.iaload, 1) := dk_46 (dk_at dksL_law_18 6 rfl rfl)
theorem dL_law_556 : decode cL_law 556 = .ok (.invokevirtual 62, 3) := dk_182 0 62 (dk_at dksL_law_18 7 rfl rfl)
theorem dL_law_559 : decode cL_law 559 = .ok (.aload_n 2, 1) := dk_44 (dk_at dksL_law_18 10 rfl rfl)
theorem dL_law_560 : decode cL_law 560 = .ok (.aload_n 0, 1) := dk_42 (dk_at dksL_law_18 11 rfl rfl)
theorem dL_law_561 : decode cL_law 561 = .ok (.iload_n 3, 1) := dk_29 (dk_at dksL_law_18 12 rfl rfl)
theorem dL_law_562 : decode cL_law 562 = .ok (.iconst 1, 1) := dk_4 (dk_at dksL_law_18 13 rfl rfl)
theorem dL_law_563 : decode cL_law 563 = .ok (.iadd, 1) := dk_96 (dk_at dksL_law_18 14 rfl rfl)
theorem dL_law_564 : decode cL_law 564 = .ok (.iaload, 1) := dk_46 (dk_at dksL_law_18 15 rfl rfl)
theorem dL_law_565 : decode cL_law 565 = .ok (.aload_n 0, 1) := dk_42 (dk_at dksL_law_18 16 rfl rfl)
theorem dL_law_566 : decode cL_law 566 = .ok (.iload_n 3, 1) := dk_29 (dk_at dksL_law_18 17 rfl rfl)
theorem dL_law_567 : decode cL_law 567 = .ok (.iconst 2, 1) := dk_5 (dk_at dksL_law_18 18 rfl rfl)
theorem dL_law_568 : decode cL_law 568 = .ok (.iadd, 1) := dk_96 (dk_at dksL_law_18 19 rfl rfl)
theorem dL_law_569 : decode cL_law 569 = .ok (.iaload, 1) := dk_46 (dk_at dksL_law_18 20 rfl rfl)
theorem dL_law_570 : decode cL_law 570 = .ok (.invokevirtual 66, 3) := dk_182 0 66 (dk_at dksL_law_18 21 rfl rfl)
theorem dL_law_573 : decode cL_law 573 = .ok (.if_icmp .eq 713, 3) := dk_159 2 201 (dk_at dksL_law_19 0 rfl rfl)
theorem dL_law_576 : decode cL_law 576 = .ok (.iconst 0, 1) := dk_3 (dk_at dksL_law_19 3 rfl rfl)
theorem dL_law_577 : decode cL_law 577 = .ok (.ireturn, 1) := dk_172 (dk_at dksL_law_19 4 rfl rfl)
theorem dL_law_578 : decode cL_law 578 = .ok (.aload_n 1, 1) := dk_43 (dk_at dksL_law_19 5 rfl rfl)
theorem dL_law_579 : decode cL_law 579 = .ok (.aload_n 0, 1) := dk_42 (dk_at dksL_law_19 6 rfl rfl)
theorem dL_law_580 : decode cL_law 580 = .ok (.iload_n 3, 1) := dk_29 (dk_at dksL_law_19 7 rfl rfl)
theorem dL_law_581 : decode cL_law 581 = .ok (.iconst 1, 1) := dk_4 (dk_at dksL_law_19 8 rfl rfl)
theorem dL_law_582 : decode cL_law 582 = .ok (.iadd, 1) := dk_96 (dk_at dksL_law_19 9 rfl rfl)
theorem dL_law_583 : decode cL_law 583 = .ok (.iaload, 1) := dk_46 (dk_at dksL_law_19 10 rfl rfl)
theorem dL_law_584 : decode cL_law 584 = .ok (.aload_n 0, 1) := dk_42 (dk_at dksL_law_19 11 rfl rfl)
theorem dL_law_585 : decode cL_law 585 = .ok (.iload_n 3, 1) := dk_29 (dk_at dksL_law_19 12 rfl rfl)
theorem dL_law_586 : decode cL_law 586 = .ok (.iconst 2, 1) := dk_5 (dk_at dksL_law_19 13 rfl rfl)
theorem dL_law_587 : decode cL_law 587 = .ok (.iadd, 1) := dk_96 (dk_at dksL_law_19 14 rfl rfl)
theorem dL_law_588 : decode cL_law 588 = .ok (.iaload, 1) := dk_46 (dk_at dksL_law_19 15 rfl rfl)
theorem dL_law_589 : decode cL_law 589 = .ok (.invokevirtual 67, 3) := dk_182 0 67 (dk_at dksL_law_19 16 rfl rfl)
theorem dL_law_592 : decode cL_law 592 = .ok (.aload_n 2, 1) := dk_44 (dk_at dksL_law_19 19 rfl rfl)
theorem dL_law_593 : decode cL_law 593 = .ok (.aload_n 0, 1) := dk_42 (dk_at dksL_law_19 20 rfl rfl)
theorem dL_law_594 : decode cL_law 594 = .ok (.iload_n 3, 1) := dk_29 (dk_at dksL_law_19 21 rfl rfl)
theorem dL_law_595 : decode cL_law 595 = .ok (.iconst 1, 1) := dk_4 (dk_at dksL_law_19 22 rfl rfl)
theorem dL_law_596 : decode cL_law 596 = .ok (.iadd, 1) := dk_96 (dk_at dksL_law_19 23 rfl rfl)
theorem dL_law_597 : decode cL_law 597 = .ok (.iaload, 1) := dk_46 (dk_at dksL_law_20 0 rfl rfl)
theorem dL_law_598 : decode cL_law 598 = .ok (.aload_n 0, 1) := dk_42 (dk_at dksL_law_20 1 rfl rfl)
theorem dL_law_599 : decode cL_law 599 = .ok (.iload_n 3, 1) := dk_29 (dk_at dksL_law_20 2 rfl rfl)
theorem dL_law_600 : decode cL_law 600 = .ok (.iconst 2, 1) := dk_5 (dk_at dksL_law_20 3 rfl rfl)
theorem dL_law_601 : decode cL_law 601 = .ok (.iadd, 1) := dk_96 (dk_at dksL_law_20 4 rfl rfl)
theorem dL_law_602 : decode cL_law 602 = .ok (.iaload, 1) := dk_46 (dk_at dksL_law_20 5 rfl rfl)
theorem dL_law_603 : decode cL_law 603 = .ok (.invokevirtual 70, 3) := dk_182 0 70 (dk_at dksL_law_20 6 rfl rfl)
theorem dL_law_606 : decode cL_law 606 = .ok (.if_icmp .eq 680, 3) := dk_159 2 168 (dk_at dksL_law_20 9 rfl rfl)
theorem dL_law_609 : decode cL_law 609 = .ok (.iconst 0, 1) := dk_3 (dk_at dksL_law_20 12 rfl rfl)
theorem dL_law_610 : decode cL_law 610 = .ok (.ireturn, 1) := dk_172 (dk_at dksL_law_20 13 rfl rfl)
theorem dL_law_611 : decode cL_law 611 = .ok (.aload_n 1, 1) := dk_43 (dk_at dksL_law_20 14 rfl rfl)
theorem dL_law_612 : decode cL_law 612 = .ok (.aload_n 0, 1) := dk_42 (dk_at dksL_law_20 15 rfl rfl)
theorem dL_law_613 : decode cL_law 613 = .ok (.iload_n 3, 1) := dk_29 (dk_at dksL_law_20 16 rfl rfl)
theorem dL_law_614 : decode cL_law 614 = .ok (.iconst 1, 1) := dk_4 (dk_at dksL_law_20 17 rfl rfl)
theorem dL_law_615 : decode cL_law 615 = .ok (.iadd, 1) := dk_96 (dk_at dksL_law_20 18 rfl rfl)
theorem dL_law_616 : decode cL_law 616 = .ok (.iaload, 1) := dk_46 (dk_at dksL_law_20 19 rfl rfl)
theorem dL_law_617 : decode cL_law 617 = .ok (.invokevirtual 71, 3) := dk_182 0 71 (dk_at dksL_law_20 20 rfl rfl)
theorem dL_law_620 : decode cL_law 620 = .ok (.aload_n 2, 1) := dk_44 (dk_at dksL_law_20 23 rfl rfl)
theorem dL_law_621 : decode cL_law 621 = .ok (.aload_n 0, 1) := dk_42 (dk_at dksL_law_21 0 rfl rfl)
theorem dL_law_622 : decode cL_law 622 = .ok (.iload_n 3, 1) := dk_29 (dk_at dksL_law_21 1 rfl rfl)
theorem dL_law_623 : decode cL_law 623 = .ok (.iconst 1, 1) := dk_4 (dk_at dksL_law_21 2 rfl rfl)
theorem dL_law_624 : decode cL_law 624 = .ok (.iadd, 1) := dk_96 (dk_at dksL_law_21 3 rfl rfl)
theorem dL_law_625 : decode cL_law 625 = .ok (.iaload, 1) := dk_46 (dk_at dksL_law_21 4 rfl rfl)
theorem dL_law_626 : decode cL_law 626 = .ok (.invokevirtual 74, 3) := dk_182 0 74 (dk_at dksL_law_21 5 rfl rfl)
theorem dL_law_629 : decode cL_law 629 = .ok (.if_icmp .eq 657, 3) := dk_159 2 145 (dk_at dksL_law_21 8 rfl rfl)
theorem dL_law_632 : decode cL_law 632 = .ok (.iconst 0, 1) := dk_3 (dk_at dksL_law_21 11 rfl rfl)
theorem dL_law_633 : decode cL_law 633 = .ok (.ireturn, 1) := dk_172 (dk_at dksL_law_21 12 rfl rfl)
theorem dL_law_634 : decode cL_law 634 = .ok (.aload_n 1, 1) := dk_43 (dk_at dksL_law_21 13 rfl rfl)
theorem dL_law_635 : decode cL_law 635 = .ok (.aload_n 0, 1) := dk_42 (dk_at dksL_law_21 14 rfl rfl)
theorem dL_law_636 : decode cL_law 636 = .ok (.iload_n 3, 1) := dk_29 (dk_at dksL_law_21 15 rfl rfl)
theorem dL_law_637 : decode cL_law 637 = .ok (.iconst 1, 1) := dk_4 (dk_at dksL_law_21 16 rfl rfl)
theorem dL_law_638 : decode cL_law 638 = .ok (.iadd, 1) := dk_96 (dk_at dksL_law_21 17 rfl rfl)
theorem dL_law_639 : decode cL_law 639 = .ok (.iaload, 1) := dk_46 (dk_at dksL_law_21 18 rfl rfl)
theorem dL_law_640 : decode cL_law 640 = .ok (.aload_n 0, 1) := dk_42 (dk_at dksL_law_21 19 rfl rfl)
theorem dL_law_641 : decode cL_law 641 = .ok (.iload_n 3, 1) := dk_29 (dk_at dksL_law_21 20 rfl rfl)
theorem dL_law_642 : decode cL_law 642 = .ok (.iconst 2, 1) := dk_5 (dk_at dksL_law_21 21 rfl rfl)
theorem dL_law_643 : decode cL_law 643 = .ok (.iadd, 1) := dk_96 (dk_at dksL_law_21 22 rfl rfl)
theorem dL_law_644 : decode cL_law 644 = .ok (.iaload, 1) := dk_46 (dk_at dksL_law_21 23 rfl rfl)
theorem dL_law_645 : decode cL_law 645 = .ok (.invokevirtual 75, 3) := dk_182 0 75 (dk_at dksL_law_22 0 rfl rfl)
theorem dL_law_648 : decode cL_law 648 = .ok (.aload_n 2, 1) := dk_44 (dk_at dksL_law_22 3 rfl rfl)
theorem dL_law_649 : decode cL_law 649 = .ok (.aload_n 0, 1) := dk_42 (dk_at dksL_law_22 4 rfl rfl)
theorem dL_law_650 : decode cL_law 650 = .ok (.iload_n 3, 1) := dk_29 (dk_at dksL_law_22 5 rfl rfl)
theorem dL_law_651 : decode cL_law 651 = .ok (.iconst 1, 1) := dk_4 (dk_at dksL_law_22 6 rfl rfl)
theorem dL_law_652 : decode cL_law 652 = .ok (.iadd, 1) := dk_96 (dk_at dksL_law_22 7 rfl rfl)
theorem dL_law_653 : decode cL_law 653 = .ok (.iaload, 1) := dk_46 (dk_at dksL_law_22 8 rfl rfl)
theorem dL_law_654 : decode cL_law 654 = .ok (.aload_n 0, 1) := dk_42 (dk_at dksL_law_22 9 rfl rfl)
theorem dL_law_655 : decode cL_law 655 = .ok (.iload_n 3, 1) := dk_29 (dk_at dksL_law_22 10 rfl rfl)
theorem dL_law_656 : decode cL_law 656 = .ok (.iconst 2, 1) := dk_5 (dk_at dksL_law_22 11 rfl rfl)
theorem dL_law_657 : decode cL_law 657 = .ok (.iadd, 1) := dk_96 (dk_at dksL_law_22 12 rfl rfl)
theorem dL_law_658 : decode cL_law 658 = .ok (.iaload, 1) := dk_46 (dk_at dksL_law_22 13 rfl rfl)
theorem dL_law_659 : decode cL_law 659 = .ok (.invokevirtual 78, 3) := dk_182 0 78 (dk_at dksL_law_22 14 rfl rfl)
theorem dL_law_662 : decode cL_law 662 = .ok (.if_icmp .eq 624, 3) := dk_159 2 112 (dk_at dksL_law_22 17 rfl rfl)
theorem dL_law_665 : decode cL_law 665 = .ok (.iconst 0, 1) := dk_3 (dk_at dksL_law_22 20 rfl rfl)
theorem dL_law_666 : decode cL_law 666 = .ok (.ireturn, 1) := dk_172 (dk_at dksL_law_22 21 rfl rfl)
theorem dL_law_667 : decode cL_law 667 = .ok (.aload_n 1, 1) := dk_43 (dk_at dksL_law_22 22 rfl rfl)
theorem dL_law_668 : decode cL_law 668 = .ok (.aload_n 0, 1) := dk_42 (dk_at dksL_law_22 23 rfl rfl)
theorem dL_law_669 : decode cL_law 669 = .ok (.iload_n 3, 1) := dk_29 (dk_at dksL_law_23 0 rfl rfl)
theorem dL_law_670 : decode cL_law 670 = .ok (.iconst 1, 1) := dk_4 (dk_at dksL_law_23 1 rfl rfl)
theorem dL_law_671 : decode cL_law 671 = .ok (.iadd, 1) := dk_96 (dk_at dksL_law_23 2 rfl rfl)
theorem dL_law_672 : decode cL_law 672 = .ok (.iaload, 1) := dk_46 (dk_at dksL_law_23 3 rfl rfl)
theorem dL_law_673 : decode cL_law 673 = .ok (.aload_n 0, 1) := dk_42 (dk_at dksL_law_23 4 rfl rfl)
theorem dL_law_674 : decode cL_law 674 = .ok (.iload_n 3, 1) := dk_29 (dk_at dksL_law_23 5 rfl rfl)
theorem dL_law_675 : decode cL_law 675 = .ok (.iconst 2, 1) := dk_5 (dk_at dksL_law_23 6 rfl rfl)
theorem dL_law_676 : decode cL_law 676 = .ok (.iadd, 1) := dk_96 (dk_at dksL_law_23 7 rfl rfl)
theorem dL_law_677 : decode cL_law 677 = .ok (.iaload, 1) := dk_46 (dk_at dksL_law_23 8 rfl rfl)
theorem dL_law_678 : decode cL_law 678 = .ok (.invokevirtual 79, 3) := dk_182 0 79 (dk_at dksL_law_23 9 rfl rfl)
theorem dL_law_681 : decode cL_law 681 = .ok (.aload_n 2, 1) := dk_44 (dk_at dksL_law_23 12 rfl rfl)
theorem dL_law_682 : decode cL_law 682 = .ok (.aload_n 0, 1) := dk_42 (dk_at dksL_law_23 13 rfl rfl)
theorem dL_law_683 : decode cL_law 683 = .ok (.iload_n 3, 1) := dk_29 (dk_at dksL_law_23 14 rfl rfl)
theorem dL_law_684 : decode cL_law 684 = .ok (.iconst 1, 1) := dk_4 (dk_at dksL_law_23 15 rfl rfl)
theorem dL_law_685 : decode cL_law 685 = .ok (.iadd, 1) := dk_96 (dk_at dksL_law_23 16 rfl rfl)
theorem dL_law_686 : decode cL_law 686 = .ok (.iaload, 1) := dk_46 (dk_at dksL_law_23 17 rfl rfl)
theorem dL_law_687 : decode cL_law 687 = .ok (.aload_n 0, 1) := dk_42 (dk_at dksL_law_23 18 rfl rfl)
theorem dL_law_688 : decode cL_law 688 = .ok (.iload_n 3, 1) := dk_29 (dk_at dksL_law_23 19 rfl rfl)
theorem dL_law_689 : decode cL_law 689 = .ok (.iconst 2, 1) := dk_5 (dk_at dksL_law_23 20 rfl rfl)
theorem dL_law_690 : decode cL_law 690 = .ok (.iadd, 1) := dk_96 (dk_at dksL_law_23 21 rfl rfl)
theorem dL_law_691 : decode cL_law 691 = .ok (.iaload, 1) := dk_46 (dk_at dksL_law_23 22 rfl rfl)
theorem dL_law_692 : decode cL_law 692 = .ok (.invokevirtual 82, 3) := dk_182 0 82 (dk_at dksL_law_24 0 rfl rfl)
theorem dL_law_695 : decode cL_law 695 = .ok (.if_icmp .eq 591, 3) := dk_159 2 79 (dk_at dksL_law_24 3 rfl rfl)
theorem dL_law_698 : decode cL_law 698 = .ok (.iconst 0, 1) := dk_3 (dk_at dksL_law_24 6 rfl rfl)
theorem dL_law_699 : decode cL_law 699 = .ok (.ireturn, 1) := dk_172 (dk_at dksL_law_24 7 rfl rfl)
theorem dL_law_700 : decode cL_law 700 = .ok (.aload_n 1, 1) := dk_43 (dk_at dksL_law_24 8 rfl rfl)
theorem dL_law_701 : decode cL_law 701 = .ok (.aload_n 0, 1) := dk_42 (dk_at dksL_law_24 9 rfl rfl)
theorem dL_law_702 : decode cL_law 702 = .ok (.iload_n 3, 1) := dk_29 (dk_at dksL_law_24 10 rfl rfl)
theorem dL_law_703 : decode cL_law 703 = .ok (.iconst 1, 1) := dk_4 (dk_at dksL_law_24 11 rfl rfl)
theorem dL_law_704 : decode cL_law 704 = .ok (.iadd, 1) := dk_96 (dk_at dksL_law_24 12 rfl rfl)
theorem dL_law_705 : decode cL_law 705 = .ok (.iaload, 1) := dk_46 (dk_at dksL_law_24 13 rfl rfl)
theorem dL_law_706 : decode cL_law 706 = .ok (.aload_n 0, 1) := dk_42 (dk_at dksL_law_24 14 rfl rfl)
theorem dL_law_707 : decode cL_law 707 = .ok (.iload_n 3, 1) := dk_29 (dk_at dksL_law_24 15 rfl rfl)
theorem dL_law_708 : decode cL_law 708 = .ok (.iconst 2, 1) := dk_5 (dk_at dksL_law_24 16 rfl rfl)
theorem dL_law_709 : decode cL_law 709 = .ok (.iadd, 1) := dk_96 (dk_at dksL_law_24 17 rfl rfl)
theorem dL_law_710 : decode cL_law 710 = .ok (.iaload, 1) := dk_46 (dk_at dksL_law_24 18 rfl rfl)
theorem dL_law_711 : decode cL_law 711 = .ok (.invokevirtual 83, 3) := dk_182 0 83 (dk_at dksL_law_24 19 rfl rfl)
theorem dL_law_714 : decode cL_law 714 = .ok (.aload_n 2, 1) := dk_44 (dk_at dksL_law_24 22 rfl rfl)
theorem dL_law_715 : decode cL_law 715 = .ok (.aload_n 0, 1) := dk_42 (dk_at dksL_law_24 23 rfl rfl)
theorem dL_law_716 : decode cL_law 716 = .ok (.iload_n 3, 1) := dk_29 (dk_at dksL_law_25 0 rfl rfl)
theorem dL_law_717 : decode cL_law 717 = .ok (.iconst 1, 1) := dk_4 (dk_at dksL_law_25 1 rfl rfl)
theorem dL_law_718 : decode cL_law 718 = .ok (.iadd, 1) := dk_96 (dk_at dksL_law_25 2 rfl rfl)
theorem dL_law_719 : decode cL_law 719 = .ok (.iaload, 1) := dk_46 (dk_at dksL_law_25 3 rfl rfl)
theorem dL_law_720 : decode cL_law 720 = .ok (.aload_n 0, 1) := dk_42 (dk_at dksL_law_25 4 rfl rfl)
theorem dL_law_721 : decode cL_law 721 = .ok (.iload_n 3, 1) := dk_29 (dk_at dksL_law_25 5 rfl rfl)
theorem dL_law_722 : decode cL_law 722 = .ok (.iconst 2, 1) := dk_5 (dk_at dksL_law_25 6 rfl rfl)
theorem dL_law_723 : decode cL_law 723 = .ok (.iadd, 1) := dk_96 (dk_at dksL_law_25 7 rfl rfl)
theorem dL_law_724 : decode cL_law 724 = .ok (.iaload, 1) := dk_46 (dk_at dksL_law_25 8 rfl rfl)
theorem dL_law_725 : decode cL_law 725 = .ok (.invokevirtual 86, 3) := dk_182 0 86 (dk_at dksL_law_25 9 rfl rfl)
theorem dL_law_728 : decode cL_law 728 = .ok (.if_icmp .eq 558, 3) := dk_159 2 46 (dk_at dksL_law_25 12 rfl rfl)
theorem dL_law_731 : decode cL_law 731 = .ok (.iconst 0, 1) := dk_3 (dk_at dksL_law_25 15 rfl rfl)
theorem dL_law_732 : decode cL_law 732 = .ok (.ireturn, 1) := dk_172 (dk_at dksL_law_25 16 rfl rfl)
theorem dL_law_733 : decode cL_law 733 = .ok (.aload_n 1, 1) := dk_43 (dk_at dksL_law_25 17 rfl rfl)
theorem dL_law_734 : decode cL_law 734 = .ok (.aload_n 0, 1) := dk_42 (dk_at dksL_law_25 18 rfl rfl)
theorem dL_law_735 : decode cL_law 735 = .ok (.iload_n 3, 1) := dk_29 (dk_at dksL_law_25 19 rfl rfl)
theorem dL_law_736 : decode cL_law 736 = .ok (.iconst 1, 1) := dk_4 (dk_at dksL_law_25 20 rfl rfl)
theorem dL_law_737 : decode cL_law 737 = .ok (.iadd, 1) := dk_96 (dk_at dksL_law_25 21 rfl rfl)
theorem dL_law_738 : decode cL_law 738 = .ok (.iaload, 1) := dk_46 (dk_at dksL_law_25 22 rfl rfl)
theorem dL_law_739 : decode cL_law 739 = .ok (.invokevirtual 87, 3) := dk_182 0 87 (dk_at dksL_law_26 0 rfl rfl)
theorem dL_law_742 : decode cL_law 742 = .ok (.aload_n 2, 1) := dk_44 (dk_at dksL_law_26 3 rfl rfl)
theorem dL_law_743 : decode cL_law 743 = .ok (.aload_n 0, 1) := dk_42 (dk_at dksL_law_26 4 rfl rfl)
theorem dL_law_744 : decode cL_law 744 = .ok (.iload_n 3, 1) := dk_29 (dk_at dksL_law_26 5 rfl rfl)
theorem dL_law_745 : decode cL_law 745 = .ok (.iconst 1, 1) := dk_4 (dk_at dksL_law_26 6 rfl rfl)
theorem dL_law_746 : decode cL_law 746 = .ok (.iadd, 1) := dk_96 (dk_at dksL_law_26 7 rfl rfl)
theorem dL_law_747 : decode cL_law 747 = .ok (.iaload, 1) := dk_46 (dk_at dksL_law_26 8 rfl rfl)
theorem dL_law_748 : decode cL_law 748 = .ok (.invokevirtual 90, 3) := dk_182 0 90 (dk_at dksL_law_26 9 rfl rfl)
theorem dL_law_751 : decode cL_law 751 = .ok (.if_icmp .eq 535, 3) := dk_159 2 23 (dk_at dksL_law_26 12 rfl rfl)
theorem dL_law_754 : decode cL_law 754 = .ok (.iconst 0, 1) := dk_3 (dk_at dksL_law_26 15 rfl rfl)
theorem dL_law_755 : decode cL_law 755 = .ok (.ireturn, 1) := dk_172 (dk_at dksL_law_26 16 rfl rfl)
theorem dL_law_756 : decode cL_law 756 = .ok (.aload_n 1, 1) := dk_43 (dk_at dksL_law_26 17 rfl rfl)
theorem dL_law_757 : decode cL_law 757 = .ok (.aload_n 0, 1) := dk_42 (dk_at dksL_law_26 18 rfl rfl)
theorem dL_law_758 : decode cL_law 758 = .ok (.iload_n 3, 1) := dk_29 (dk_at dksL_law_26 19 rfl rfl)
theorem dL_law_759 : decode cL_law 759 = .ok (.iconst 1, 1) := dk_4 (dk_at dksL_law_26 20 rfl rfl)
theorem dL_law_760 : decode cL_law 760 = .ok (.iadd, 1) := dk_96 (dk_at dksL_law_26 21 rfl rfl)
theorem dL_law_761 : decode cL_law 761 = .ok (.iaload, 1) := dk_46 (dk_at dksL_law_26 22 rfl rfl)
theorem dL_law_762 : decode cL_law 762 = .ok (.aload_n 0, 1) := dk_42 (dk_at dksL_law_26 23 rfl rfl)
theorem dL_law_763 : decode cL_law 763 = .ok (.iload_n 3, 1) := dk_29 (dk_at dksL_law_27 0 rfl rfl)
theorem dL_law_764 : decode cL_law 764 = .ok (.iconst 2, 1) := dk_5 (dk_at dksL_law_27 1 rfl rfl)
theorem dL_law_765 : decode cL_law 765 = .ok (.iadd, 1) := dk_96 (dk_at dksL_law_27 2 rfl rfl)
theorem dL_law_766 : decode cL_law 766 = .ok (.iaload, 1) := dk_46 (dk_at dksL_law_27 3 rfl rfl)
theorem dL_law_767 : decode cL_law 767 = .ok (.invokevirtual 91, 3) := dk_182 0 91 (dk_at dksL_law_27 4 rfl rfl)
theorem dL_law_770 : decode cL_law 770 = .ok (.aload_n 2, 1) := dk_44 (dk_at dksL_law_27 7 rfl rfl)
theorem dL_law_771 : decode cL_law 771 = .ok (.aload_n 0, 1) := dk_42 (dk_at dksL_law_27 8 rfl rfl)
theorem dL_law_772 : decode cL_law 772 = .ok (.iload_n 3, 1) := dk_29 (dk_at dksL_law_27 9 rfl rfl)
theorem dL_law_773 : decode cL_law 773 = .ok (.iconst 1, 1) := dk_4 (dk_at dksL_law_27 10 rfl rfl)
theorem dL_law_774 : decode cL_law 774 = .ok (.iadd, 1) := dk_96 (dk_at dksL_law_27 11 rfl rfl)
theorem dL_law_775 : decode cL_law 775 = .ok (.iaload, 1) := dk_46 (dk_at dksL_law_27 12 rfl rfl)
theorem dL_law_776 : decode cL_law 776 = .ok (.aload_n 0, 1) := dk_42 (dk_at dksL_law_27 13 rfl rfl)
theorem dL_law_777 : decode cL_law 777 = .ok (.iload_n 3, 1) := dk_29 (dk_at dksL_law_27 14 rfl rfl)
theorem dL_law_778 : decode cL_law 778 = .ok (.iconst 2, 1) := dk_5 (dk_at dksL_law_27 15 rfl rfl)
theorem dL_law_779 : decode cL_law 779 = .ok (.iadd, 1) := dk_96 (dk_at dksL_law_27 16 rfl rfl)
theorem dL_law_780 : decode cL_law 780 = .ok (.iaload, 1) := dk_46 (dk_at dksL_law_27 17 rfl rfl)
theorem dL_law_781 : decode cL_law 781 = .ok (.invokevirtual 94, 3) := dk_182 0 94 (dk_at dksL_law_27 18 rfl rfl)
theorem dL_law_784 : decode cL_law 784 = .ok (.if_icmp .eq 502, 3) := dk_159 1 246 (dk_at dksL_law_27 21 rfl rfl)
theorem dL_law_787 : decode cL_law 787 = .ok (.iconst 0, 1) := dk_3 (dk_at dksL_law_28 0 rfl rfl)
theorem dL_law_788 : decode cL_law 788 = .ok (.ireturn, 1) := dk_172 (dk_at dksL_law_28 1 rfl rfl)
theorem dL_law_789 : decode cL_law 789 = .ok (.aload_n 1, 1) := dk_43 (dk_at dksL_law_28 2 rfl rfl)
theorem dL_law_790 : decode cL_law 790 = .ok (.aload_n 0, 1) := dk_42 (dk_at dksL_law_28 3 rfl rfl)
theorem dL_law_791 : decode cL_law 791 = .ok (.iload_n 3, 1) := dk_29 (dk_at dksL_law_28 4 rfl rfl)
theorem dL_law_792 : decode cL_law 792 = .ok (.iconst 1, 1) := dk_4 (dk_at dksL_law_28 5 rfl rfl)
theorem dL_law_793 : decode cL_law 793 = .ok (.iadd, 1) := dk_96 (dk_at dksL_law_28 6 rfl rfl)
theorem dL_law_794 : decode cL_law 794 = .ok (.iaload, 1) := dk_46 (dk_at dksL_law_28 7 rfl rfl)
theorem dL_law_795 : decode cL_law 795 = .ok (.aload_n 0, 1) := dk_42 (dk_at dksL_law_28 8 rfl rfl)
theorem dL_law_796 : decode cL_law 796 = .ok (.iload_n 3, 1) := dk_29 (dk_at dksL_law_28 9 rfl rfl)
theorem dL_law_797 : decode cL_law 797 = .ok (.iconst 2, 1) := dk_5 (dk_at dksL_law_28 10 rfl rfl)
theorem dL_law_798 : decode cL_law 798 = .ok (.iadd, 1) := dk_96 (dk_at dksL_law_28 11 rfl rfl)
theorem dL_law_799 : decode cL_law 799 = .ok (.iaload, 1) := dk_46 (dk_at dksL_law_28 12 rfl rfl)
theorem dL_law_800 : decode cL_law 800 = .ok (.invokevirtual 95, 3) := dk_182 0 95 (dk_at dksL_law_28 13 rfl rfl)
theorem dL_law_803 : decode cL_law 803 = .ok (.aload_n 2, 1) := dk_44 (dk_at dksL_law_28 16 rfl rfl)
theorem dL_law_804 : decode cL_law 804 = .ok (.aload_n 0, 1) := dk_42 (dk_at dksL_law_28 17 rfl rfl)
theorem dL_law_805 : decode cL_law 805 = .ok (.iload_n 3, 1) := dk_29 (dk_at dksL_law_28 18 rfl rfl)
theorem dL_law_806 : decode cL_law 806 = .ok (.iconst 1, 1) := dk_4 (dk_at dksL_law_28 19 rfl rfl)
theorem dL_law_807 : decode cL_law 807 = .ok (.iadd, 1) := dk_96 (dk_at dksL_law_28 20 rfl rfl)
theorem dL_law_808 : decode cL_law 808 = .ok (.iaload, 1) := dk_46 (dk_at dksL_law_28 21 rfl rfl)
theorem dL_law_809 : decode cL_law 809 = .ok (.aload_n 0, 1) := dk_42 (dk_at dksL_law_28 22 rfl rfl)
theorem dL_law_810 : decode cL_law 810 = .ok (.iload_n 3, 1) := dk_29 (dk_at dksL_law_28 23 rfl rfl)
theorem dL_law_811 : decode cL_law 811 = .ok (.iconst 2, 1) := dk_5 (dk_at dksL_law_29 0 rfl rfl)
theorem dL_law_812 : decode cL_law 812 = .ok (.iadd, 1) := dk_96 (dk_at dksL_law_29 1 rfl rfl)
theorem dL_law_813 : decode cL_law 813 = .ok (.iaload, 1) := dk_46 (dk_at dksL_law_29 2 rfl rfl)
theorem dL_law_814 : decode cL_law 814 = .ok (.invokevirtual 98, 3) := dk_182 0 98 (dk_at dksL_law_29 3 rfl rfl)
theorem dL_law_817 : decode cL_law 817 = .ok (.if_icmp .eq 469, 3) := dk_159 1 213 (dk_at dksL_law_29 6 rfl rfl)
theorem dL_law_820 : decode cL_law 820 = .ok (.iconst 0, 1) := dk_3 (dk_at dksL_law_29 9 rfl rfl)
theorem dL_law_821 : decode cL_law 821 = .ok (.ireturn, 1) := dk_172 (dk_at dksL_law_29 10 rfl rfl)
theorem dL_law_822 : decode cL_law 822 = .ok (.aload_n 1, 1) := dk_43 (dk_at dksL_law_29 11 rfl rfl)
theorem dL_law_823 : decode cL_law 823 = .ok (.aload_n 0, 1) := dk_42 (dk_at dksL_law_29 12 rfl rfl)
theorem dL_law_824 : decode cL_law 824 = .ok (.iload_n 3, 1) := dk_29 (dk_at dksL_law_29 13 rfl rfl)
theorem dL_law_825 : decode cL_law 825 = .ok (.iconst 1, 1) := dk_4 (dk_at dksL_law_29 14 rfl rfl)
theorem dL_law_826 : decode cL_law 826 = .ok (.iadd, 1) := dk_96 (dk_at dksL_law_29 15 rfl rfl)
theorem dL_law_827 : decode cL_law 827 = .ok (.iaload, 1) := dk_46 (dk_at dksL_law_29 16 rfl rfl)
theorem dL_law_828 : decode cL_law 828 = .ok (.aload_n 0, 1) := dk_42 (dk_at dksL_law_29 17 rfl rfl)
theorem dL_law_829 : decode cL_law 829 = .ok (.iload_n 3, 1) := dk_29 (dk_at dksL_law_29 18 rfl rfl)
theorem dL_law_830 : decode cL_law 830 = .ok (.iconst 2, 1) := dk_5 (dk_at dksL_law_29 19 rfl rfl)
theorem dL_law_831 : decode cL_law 831 = .ok (.iadd, 1) := dk_96 (dk_at dksL_law_29 20 rfl rfl)
theorem dL_law_832 : decode cL_law 832 = .ok (.iaload, 1) := dk_46 (dk_at dksL_law_29 21 rfl rfl)
theorem dL_law_833 : decode cL_law 833 = .ok (.aload_n 0, 1) := dk_42 (dk_at dksL_law_29 22 rfl rfl)
theorem dL_law_834 : decode cL_law 834 = .ok (.iload_n 3, 1) := dk_29 (dk_at dksL_law_29 23 rfl rfl)
theorem dL_law_835 : decode cL_law 835 = .ok (.iconst 3, 1) := dk_6 (dk_at dksL_law_30 0 rfl rfl)
theorem dL_law_836 : decode cL_law 836 = .ok (.iadd, 1) := dk_96 (dk_at dksL_law_30 1 rfl rfl)
theorem dL_law_837 : decode cL_law 837 = .ok (.iaload, 1) := dk_46 (dk_at dksL_law_30 2 rfl rfl)
theorem dL_law_838 : decode cL_law 838 = .ok (.invokevirtual 99, 3) := dk_182 0 99 (dk_at dksL_law_30 3 rfl rfl)
theorem dL_law_841 : decode cL_law 841 = .ok (.aload_n 2, 1) := dk_44 (dk_at dksL_law_30 6 rfl rfl)
theorem dL_law_842 : decode cL_law 842 = .ok (.aload_n 0, 1) := dk_42 (dk_at dksL_law_30 7 rfl rfl)
theorem dL_law_843 : decode cL_law 843 = .ok (.iload_n 3, 1) := dk_29 (dk_at dksL_law_30 8 rfl rfl)
theorem dL_law_844 : decode cL_law 844 = .ok (.iconst 1, 1) := dk_4 (dk_at dksL_law_30 9 rfl rfl)
theorem dL_law_845 : decode cL_law 845 = .ok (.iadd, 1) := dk_96 (dk_at dksL_law_30 10 rfl rfl)
theorem dL_law_846 : decode cL_law 846 = .ok (.iaload, 1) := dk_46 (dk_at dksL_law_30 11 rfl rfl)
theorem dL_law_847 : decode cL_law 847 = .ok (.aload_n 0, 1) := dk_42 (dk_at dksL_law_30 12 rfl rfl)
theorem dL_law_848 : decode cL_law 848 = .ok (.iload_n 3, 1) := dk_29 (dk_at dksL_law_30 13 rfl rfl)
theorem dL_law_849 : decode cL_law 849 = .ok (.iconst 2, 1) := dk_5 (dk_at dksL_law_30 14 rfl rfl)
theorem dL_law_850 : decode cL_law 850 = .ok (.iadd, 1) := dk_96 (dk_at dksL_law_30 15 rfl rfl)
theorem dL_law_851 : decode cL_law 851 = .ok (.iaload, 1) := dk_46 (dk_at dksL_law_30 16 rfl rfl)
theorem dL_law_852 : decode cL_law 852 = .ok (.aload_n 0, 1) := dk_42 (dk_at dksL_law_30 17 rfl rfl)
theorem dL_law_853 : decode cL_law 853 = .ok (.iload_n 3, 1) := dk_29 (dk_at dksL_law_30 18 rfl rfl)
theorem dL_law_854 : decode cL_law 854 = .ok (.iconst 3, 1) := dk_6 (dk_at dksL_law_30 19 rfl rfl)
theorem dL_law_855 : decode cL_law 855 = .ok (.iadd, 1) := dk_96 (dk_at dksL_law_30 20 rfl rfl)
theorem dL_law_856 : decode cL_law 856 = .ok (.iaload, 1) := dk_46 (dk_at dksL_law_30 21 rfl rfl)
theorem dL_law_857 : decode cL_law 857 = .ok (.invokevirtual 102, 3) := dk_182 0 102 (dk_at dksL_law_31 0 rfl rfl)
theorem dL_law_860 : decode cL_law 860 = .ok (.if_icmp .eq 426, 3) := dk_159 1 170 (dk_at dksL_law_31 3 rfl rfl)
theorem dL_law_863 : decode cL_law 863 = .ok (.iconst 0, 1) := dk_3 (dk_at dksL_law_31 6 rfl rfl)
theorem dL_law_864 : decode cL_law 864 = .ok (.ireturn, 1) := dk_172 (dk_at dksL_law_31 7 rfl rfl)
theorem dL_law_865 : decode cL_law 865 = .ok (.aload_n 1, 1) := dk_43 (dk_at dksL_law_31 8 rfl rfl)
theorem dL_law_866 : decode cL_law 866 = .ok (.aload_n 0, 1) := dk_42 (dk_at dksL_law_31 9 rfl rfl)
theorem dL_law_867 : decode cL_law 867 = .ok (.iload_n 3, 1) := dk_29 (dk_at dksL_law_31 10 rfl rfl)
theorem dL_law_868 : decode cL_law 868 = .ok (.iconst 1, 1) := dk_4 (dk_at dksL_law_31 11 rfl rfl)
theorem dL_law_869 : decode cL_law 869 = .ok (.iadd, 1) := dk_96 (dk_at dksL_law_31 12 rfl rfl)
theorem dL_law_870 : decode cL_law 870 = .ok (.iaload, 1) := dk_46 (dk_at dksL_law_31 13 rfl rfl)
theorem dL_law_871 : decode cL_law 871 = .ok (.invokevirtual 103, 3) := dk_182 0 103 (dk_at dksL_law_31 14 rfl rfl)
theorem dL_law_874 : decode cL_law 874 = .ok (.aload_n 2, 1) := dk_44 (dk_at dksL_law_31 17 rfl rfl)
theorem dL_law_875 : decode cL_law 875 = .ok (.aload_n 0, 1) := dk_42 (dk_at dksL_law_31 18 rfl rfl)
theorem dL_law_876 : decode cL_law 876 = .ok (.iload_n 3, 1) := dk_29 (dk_at dksL_law_31 19 rfl rfl)
theorem dL_law_877 : decode cL_law 877 = .ok (.iconst 1, 1) := dk_4 (dk_at dksL_law_31 20 rfl rfl)
theorem dL_law_878 : decode cL_law 878 = .ok (.iadd, 1) := dk_96 (dk_at dksL_law_31 21 rfl rfl)
theorem dL_law_879 : decode cL_law 879 = .ok (.iaload, 1) := dk_46 (dk_at dksL_law_31 22 rfl rfl)
theorem dL_law_880 : decode cL_law 880 = .ok (.invokevirtual 106, 3) := dk_182 0 106 (dk_at dksL_law_32 0 rfl rfl)
theorem dL_law_883 : decode cL_law 883 = .ok (.if_icmp .eq 403, 3) := dk_159 1 147 (dk_at dksL_law_32 3 rfl rfl)
theorem dL_law_886 : decode cL_law 886 = .ok (.iconst 0, 1) := dk_3 (dk_at dksL_law_32 6 rfl rfl)
theorem dL_law_887 : decode cL_law 887 = .ok (.ireturn, 1) := dk_172 (dk_at dksL_law_32 7 rfl rfl)
theorem dL_law_888 : decode cL_law 888 = .ok (.aload_n 1, 1) := dk_43 (dk_at dksL_law_32 8 rfl rfl)
theorem dL_law_889 : decode cL_law 889 = .ok (.aload_n 0, 1) := dk_42 (dk_at dksL_law_32 9 rfl rfl)
theorem dL_law_890 : decode cL_law 890 = .ok (.iload_n 3, 1) := dk_29 (dk_at dksL_law_32 10 rfl rfl)
theorem dL_law_891 : decode cL_law 891 = .ok (.iconst 1, 1) := dk_4 (dk_at dksL_law_32 11 rfl rfl)
theorem dL_law_892 : decode cL_law 892 = .ok (.iadd, 1) := dk_96 (dk_at dksL_law_32 12 rfl rfl)
theorem dL_law_893 : decode cL_law 893 = .ok (.iaload, 1) := dk_46 (dk_at dksL_law_32 13 rfl rfl)
theorem dL_law_894 : decode cL_law 894 = .ok (.aload_n 0, 1) := dk_42 (dk_at dksL_law_32 14 rfl rfl)
theorem dL_law_895 : decode cL_law 895 = .ok (.iload_n 3, 1) := dk_29 (dk_at dksL_law_32 15 rfl rfl)
theorem dL_law_896 : decode cL_law 896 = .ok (.iconst 2, 1) := dk_5 (dk_at dksL_law_32 16 rfl rfl)
theorem dL_law_897 : decode cL_law 897 = .ok (.iadd, 1) := dk_96 (dk_at dksL_law_32 17 rfl rfl)
theorem dL_law_898 : decode cL_law 898 = .ok (.iaload, 1) := dk_46 (dk_at dksL_law_32 18 rfl rfl)
theorem dL_law_899 : decode cL_law 899 = .ok (.aload_n 0, 1) := dk_42 (dk_at dksL_law_32 19 rfl rfl)
theorem dL_law_900 : decode cL_law 900 = .ok (.iload_n 3, 1) := dk_29 (dk_at dksL_law_32 20 rfl rfl)
theorem dL_law_901 : decode cL_law 901 = .ok (.iconst 3, 1) := dk_6 (dk_at dksL_law_32 21 rfl rfl)
theorem dL_law_902 : decode cL_law 902 = .ok (.iadd, 1) := dk_96 (dk_at dksL_law_32 22 rfl rfl)
theorem dL_law_903 : decode cL_law 903 = .ok (.iaload, 1) := dk_46 (dk_at dksL_law_32 23 rfl rfl)
theorem dL_law_904 : decode cL_law 904 = .ok (.aload_n 0, 1) := dk_42 (dk_at dksL_law_33 0 rfl rfl)
theorem dL_law_905 : decode cL_law 905 = .ok (.iload_n 3, 1) := dk_29 (dk_at dksL_law_33 1 rfl rfl)
theorem dL_law_906 : decode cL_law 906 = .ok (.iconst 4, 1) := dk_7 (dk_at dksL_law_33 2 rfl rfl)
theorem dL_law_907 : decode cL_law 907 = .ok (.iadd, 1) := dk_96 (dk_at dksL_law_33 3 rfl rfl)
theorem dL_law_908 : decode cL_law 908 = .ok (.iaload, 1) := dk_46 (dk_at dksL_law_33 4 rfl rfl)
theorem dL_law_909 : decode cL_law 909 = .ok (.invokevirtual 107, 3) := dk_182 0 107 (dk_at dksL_law_33 5 rfl rfl)
theorem dL_law_912 : decode cL_law 912 = .ok (.aload_n 2, 1) := dk_44 (dk_at dksL_law_33 8 rfl rfl)
theorem dL_law_913 : decode cL_law 913 = .ok (.aload_n 0, 1) := dk_42 (dk_at dksL_law_33 9 rfl rfl)
theorem dL_law_914 : decode cL_law 914 = .ok (.iload_n 3, 1) := dk_29 (dk_at dksL_law_33 10 rfl rfl)
theorem dL_law_915 : decode cL_law 915 = .ok (.iconst 1, 1) := dk_4 (dk_at dksL_law_33 11 rfl rfl)
theorem dL_law_916 : decode cL_law 916 = .ok (.iadd, 1) := dk_96 (dk_at dksL_law_33 12 rfl rfl)
theorem dL_law_917 : decode cL_law 917 = .ok (.iaload, 1) := dk_46 (dk_at dksL_law_33 13 rfl rfl)
theorem dL_law_918 : decode cL_law 918 = .ok (.aload_n 0, 1) := dk_42 (dk_at dksL_law_33 14 rfl rfl)
theorem dL_law_919 : decode cL_law 919 = .ok (.iload_n 3, 1) := dk_29 (dk_at dksL_law_33 15 rfl rfl)
theorem dL_law_920 : decode cL_law 920 = .ok (.iconst 2, 1) := dk_5 (dk_at dksL_law_33 16 rfl rfl)
theorem dL_law_921 : decode cL_law 921 = .ok (.iadd, 1) := dk_96 (dk_at dksL_law_33 17 rfl rfl)
theorem dL_law_922 : decode cL_law 922 = .ok (.iaload, 1) := dk_46 (dk_at dksL_law_33 18 rfl rfl)
theorem dL_law_923 : decode cL_law 923 = .ok (.aload_n 0, 1) := dk_42 (dk_at dksL_law_33 19 rfl rfl)
theorem dL_law_924 : decode cL_law 924 = .ok (.iload_n 3, 1) := dk_29 (dk_at dksL_law_33 20 rfl rfl)
theorem dL_law_925 : decode cL_law 925 = .ok (.iconst 3, 1) := dk_6 (dk_at dksL_law_33 21 rfl rfl)
theorem dL_law_926 : decode cL_law 926 = .ok (.iadd, 1) := dk_96 (dk_at dksL_law_33 22 rfl rfl)
theorem dL_law_927 : decode cL_law 927 = .ok (.iaload, 1) := dk_46 (dk_at dksL_law_33 23 rfl rfl)
theorem dL_law_928 : decode cL_law 928 = .ok (.aload_n 0, 1) := dk_42 (dk_at dksL_law_34 0 rfl rfl)
theorem dL_law_929 : decode cL_law 929 = .ok (.iload_n 3, 1) := dk_29 (dk_at dksL_law_34 1 rfl rfl)
theorem dL_law_930 : decode cL_law 930 = .ok (.iconst 4, 1) := dk_7 (dk_at dksL_law_34 2 rfl rfl)
theorem dL_law_931 : decode cL_law 931 = .ok (.iadd, 1) := dk_96 (dk_at dksL_law_34 3 rfl rfl)
theorem dL_law_932 : decode cL_law 932 = .ok (.iaload, 1) := dk_46 (dk_at dksL_law_34 4 rfl rfl)
theorem dL_law_933 : decode cL_law 933 = .ok (.invokevirtual 111, 3) := dk_182 0 111 (dk_at dksL_law_34 5 rfl rfl)
theorem dL_law_936 : decode cL_law 936 = .ok (.if_icmp .eq 350, 3) := dk_159 1 94 (dk_at dksL_law_34 8 rfl rfl)
theorem dL_law_939 : decode cL_law 939 = .ok (.iconst 0, 1) := dk_3 (dk_at dksL_law_34 11 rfl rfl)
theorem dL_law_940 : decode cL_law 940 = .ok (.ireturn, 1) := dk_172 (dk_at dksL_law_34 12 rfl rfl)
theorem dL_law_941 : decode cL_law 941 = .ok (.aload_n 1, 1) := dk_43 (dk_at dksL_law_34 13 rfl rfl)
theorem dL_law_942 : decode cL_law 942 = .ok (.aload_n 0, 1) := dk_42 (dk_at dksL_law_34 14 rfl rfl)
theorem dL_law_943 : decode cL_law 943 = .ok (.iload_n 3, 1) := dk_29 (dk_at dksL_law_34 15 rfl rfl)
theorem dL_law_944 : decode cL_law 944 = .ok (.iconst 1, 1) := dk_4 (dk_at dksL_law_34 16 rfl rfl)
theorem dL_law_945 : decode cL_law 945 = .ok (.iadd, 1) := dk_96 (dk_at dksL_law_34 17 rfl rfl)
theorem dL_law_946 : decode cL_law 946 = .ok (.iaload, 1) := dk_46 (dk_at dksL_law_34 18 rfl rfl)
theorem dL_law_947 : decode cL_law 947 = .ok (.aload_n 0, 1) := dk_42 (dk_at dksL_law_34 19 rfl rfl)
theorem dL_law_948 : decode cL_law 948 = .ok (.iload_n 3, 1) := dk_29 (dk_at dksL_law_34 20 rfl rfl)
theorem dL_law_949 : decode cL_law 949 = .ok (.iconst 2, 1) := dk_5 (dk_at dksL_law_34 21 rfl rfl)
theorem dL_law_950 : decode cL_law 950 = .ok (.iadd, 1) := dk_96 (dk_at dksL_law_34 22 rfl rfl)
theorem dL_law_951 : decode cL_law 951 = .ok (.iaload, 1) := dk_46 (dk_at dksL_law_34 23 rfl rfl)
theorem dL_law_952 : decode cL_law 952 = .ok (.invokevirtual 112, 3) := dk_182 0 112 (dk_at dksL_law_35 0 rfl rfl)
theorem dL_law_955 : decode cL_law 955 = .ok (.aload_n 2, 1) := dk_44 (dk_at dksL_law_35 3 rfl rfl)
theorem dL_law_956 : decode cL_law 956 = .ok (.aload_n 0, 1) := dk_42 (dk_at dksL_law_35 4 rfl rfl)
theorem dL_law_957 : decode cL_law 957 = .ok (.iload_n 3, 1) := dk_29 (dk_at dksL_law_35 5 rfl rfl)
theorem dL_law_958 : decode cL_law 958 = .ok (.iconst 1, 1) := dk_4 (dk_at dksL_law_35 6 rfl rfl)
theorem dL_law_959 : decode cL_law 959 = .ok (.iadd, 1) := dk_96 (dk_at dksL_law_35 7 rfl rfl)
theorem dL_law_960 : decode cL_law 960 = .ok (.iaload, 1) := dk_46 (dk_at dksL_law_35 8 rfl rfl)
theorem dL_law_961 : decode cL_law 961 = .ok (.aload_n 0, 1) := dk_42 (dk_at dksL_law_35 9 rfl rfl)
theorem dL_law_962 : decode cL_law 962 = .ok (.iload_n 3, 1) := dk_29 (dk_at dksL_law_35 10 rfl rfl)
theorem dL_law_963 : decode cL_law 963 = .ok (.iconst 2, 1) := dk_5 (dk_at dksL_law_35 11 rfl rfl)
theorem dL_law_964 : decode cL_law 964 = .ok (.iadd, 1) := dk_96 (dk_at dksL_law_35 12 rfl rfl)
theorem dL_law_965 : decode cL_law 965 = .ok (.iaload, 1) := dk_46 (dk_at dksL_law_35 13 rfl rfl)
theorem dL_law_966 : decode cL_law 966 = .ok (.invokevirtual 116, 3) := dk_182 0 116 (dk_at dksL_law_35 14 rfl rfl)
theorem dL_law_969 : decode cL_law 969 = .ok (.if_icmp .eq 317, 3) := dk_159 1 61 (dk_at dksL_law_35 17 rfl rfl)
theorem dL_law_972 : decode cL_law 972 = .ok (.iconst 0, 1) := dk_3 (dk_at dksL_law_35 20 rfl rfl)
theorem dL_law_973 : decode cL_law 973 = .ok (.ireturn, 1) := dk_172 (dk_at dksL_law_35 21 rfl rfl)
theorem dL_law_974 : decode cL_law 974 = .ok (.aload_n 1, 1) := dk_43 (dk_at dksL_law_35 22 rfl rfl)
theorem dL_law_975 : decode cL_law 975 = .ok (.aload_n 0, 1) := dk_42 (dk_at dksL_law_35 23 rfl rfl)
theorem dL_law_976 : decode cL_law 976 = .ok (.iload_n 3, 1) := dk_29 (dk_at dksL_law_36 0 rfl rfl)
theorem dL_law_977 : decode cL_law 977 = .ok (.iconst 1, 1) := dk_4 (dk_at dksL_law_36 1 rfl rfl)
theorem dL_law_978 : decode cL_law 978 = .ok (.iadd, 1) := dk_96 (dk_at dksL_law_36 2 rfl rfl)
theorem dL_law_979 : decode cL_law 979 = .ok (.iaload, 1) := dk_46 (dk_at dksL_law_36 3 rfl rfl)
theorem dL_law_980 : decode cL_law 980 = .ok (.invokevirtual 117, 3) := dk_182 0 117 (dk_at dksL_law_36 4 rfl rfl)
theorem dL_law_983 : decode cL_law 983 = .ok (.aload_n 2, 1) := dk_44 (dk_at dksL_law_36 7 rfl rfl)
theorem dL_law_984 : decode cL_law 984 = .ok (.aload_n 0, 1) := dk_42 (dk_at dksL_law_36 8 rfl rfl)
theorem dL_law_985 : decode cL_law 985 = .ok (.iload_n 3, 1) := dk_29 (dk_at dksL_law_36 9 rfl rfl)
theorem dL_law_986 : decode cL_law 986 = .ok (.iconst 1, 1) := dk_4 (dk_at dksL_law_36 10 rfl rfl)
theorem dL_law_987 : decode cL_law 987 = .ok (.iadd, 1) := dk_96 (dk_at dksL_law_36 11 rfl rfl)
theorem dL_law_988 : decode cL_law 988 = .ok (.iaload, 1) := dk_46 (dk_at dksL_law_36 12 rfl rfl)
theorem dL_law_989 : decode cL_law 989 = .ok (.invokevirtual 120, 3) := dk_182 0 120 (dk_at dksL_law_36 13 rfl rfl)
theorem dL_law_992 : decode cL_law 992 = .ok (.if_icmp .eq 294, 3) := dk_159 1 38 (dk_at dksL_law_36 16 rfl rfl)
theorem dL_law_995 : decode cL_law 995 = .ok (.iconst 0, 1) := dk_3 (dk_at dksL_law_36 19 rfl rfl)
theorem dL_law_996 : decode cL_law 996 = .ok (.ireturn, 1) := dk_172 (dk_at dksL_law_36 20 rfl rfl)
theorem dL_law_997 : decode cL_law 997 = .ok (.aload_n 1, 1) := dk_43 (dk_at dksL_law_36 21 rfl rfl)
theorem dL_law_998 : decode cL_law 998 = .ok (.aload_n 0, 1) := dk_42 (dk_at dksL_law_36 22 rfl rfl)
theorem dL_law_999 : decode cL_law 999 = .ok (.iload_n 3, 1) := dk_29 (dk_at dksL_law_36 23 rfl rfl)
theorem dL_law_1000 : decode cL_law 1000 = .ok (.iconst 1, 1) := dk_4 (dk_at dksL_law_37 0 rfl rfl)
theorem dL_law_1001 : decode cL_law 1001 = .ok (.iadd, 1) := dk_96 (dk_at dksL_law_37 1 rfl rfl)
theorem dL_law_1002 : decode cL_law 1002 = .ok (.iaload, 1) := dk_46 (dk_at dksL_law_37 2 rfl rfl)
theorem dL_law_1003 : decode cL_law 1003 = .ok (.invokevirtual 121, 3) := dk_182 0 121 (dk_at dksL_law_37 3 rfl rfl)
theorem dL_law_1006 : decode cL_law 1006 = .ok (.aload_n 2, 1) := dk_44 (dk_at dksL_law_37 6 rfl rfl)
theorem dL_law_1007 : decode cL_law 1007 = .ok (.aload_n 0, 1) := dk_42 (dk_at dksL_law_37 7 rfl rfl)
theorem dL_law_1008 : decode cL_law 1008 = .ok (.iload_n 3, 1) := dk_29 (dk_at dksL_law_37 8 rfl rfl)
theorem dL_law_1009 : decode cL_law 1009 = .ok (.iconst 1, 1) := dk_4 (dk_at dksL_law_37 9 rfl rfl)
theorem dL_law_1010 : decode cL_law 1010 = .ok (.iadd, 1) := dk_96 (dk_at dksL_law_37 10 rfl rfl)
theorem dL_law_1011 : decode cL_law 1011 = .ok (.iaload, 1) := dk_46 (dk_at dksL_law_37 11 rfl rfl)
theorem dL_law_1012 : decode cL_law 1012 = .ok (.invokevirtual 124, 3) := dk_182 0 124 (dk_at dksL_law_37 12 rfl rfl)
theorem dL_law_1015 : decode cL_law 1015 = .ok (.if_icmp .eq 271, 3) := dk_159 1 15 (dk_at dksL_law_37 15 rfl rfl)
theorem dL_law_1018 : decode cL_law 1018 = .ok (.iconst 0, 1) := dk_3 (dk_at dksL_law_37 18 rfl rfl)
theorem dL_law_1019 : decode cL_law 1019 = .ok (.ireturn, 1) := dk_172 (dk_at dksL_law_37 19 rfl rfl)
theorem dL_law_1020 : decode cL_law 1020 = .ok (.aload_n 1, 1) := dk_43 (dk_at dksL_law_37 20 rfl rfl)
theorem dL_law_1021 : decode cL_law 1021 = .ok (.aload_n 0, 1) := dk_42 (dk_at dksL_law_37 21 rfl rfl)
theorem dL_law_1022 : decode cL_law 1022 = .ok (.iload_n 3, 1) := dk_29 (dk_at dksL_law_37 22 rfl rfl)
theorem dL_law_1023 : decode cL_law 1023 = .ok (.iconst 1, 1) := dk_4 (dk_at dksL_law_37 23 rfl rfl)
theorem dL_law_1024 : decode cL_law 1024 = .ok (.iadd, 1) := dk_96 (dk_at dksL_law_38 0 rfl rfl)
theorem dL_law_1025 : decode cL_law 1025 = .ok (.iaload, 1) := dk_46 (dk_at dksL_law_38 1 rfl rfl)
theorem dL_law_1026 : decode cL_law 1026 = .ok (.aload_n 0, 1) := dk_42 (dk_at dksL_law_38 2 rfl rfl)
theorem dL_law_1027 : decode cL_law 1027 = .ok (.iload_n 3, 1) := dk_29 (dk_at dksL_law_38 3 rfl rfl)
theorem dL_law_1028 : decode cL_law 1028 = .ok (.iconst 2, 1) := dk_5 (dk_at dksL_law_38 4 rfl rfl)
theorem dL_law_1029 : decode cL_law 1029 = .ok (.iadd, 1) := dk_96 (dk_at dksL_law_38 5 rfl rfl)
theorem dL_law_1030 : decode cL_law 1030 = .ok (.iaload, 1) := dk_46 (dk_at dksL_law_38 6 rfl rfl)
theorem dL_law_1031 : decode cL_law 1031 = .ok (.invokevirtual 125, 3) := dk_182 0 125 (dk_at dksL_law_38 7 rfl rfl)
theorem dL_law_1034 : decode cL_law 1034 = .ok (.aload_n 2, 1) := dk_44 (dk_at dksL_law_38 10 rfl rfl)
theorem dL_law_1035 : decode cL_law 1035 = .ok (.aload_n 0, 1) := dk_42 (dk_at dksL_law_38 11 rfl rfl)
theorem dL_law_1036 : decode cL_law 1036 = .ok (.iload_n 3, 1) := dk_29 (dk_at dksL_law_38 12 rfl rfl)
theorem dL_law_1037 : decode cL_law 1037 = .ok (.iconst 1, 1) := dk_4 (dk_at dksL_law_38 13 rfl rfl)
theorem dL_law_1038 : decode cL_law 1038 = .ok (.iadd, 1) := dk_96 (dk_at dksL_law_38 14 rfl rfl)
theorem dL_law_1039 : decode cL_law 1039 = .ok (.iaload, 1) := dk_46 (dk_at dksL_law_38 15 rfl rfl)
theorem dL_law_1040 : decode cL_law 1040 = .ok (.aload_n 0, 1) := dk_42 (dk_at dksL_law_38 16 rfl rfl)
theorem dL_law_1041 : decode cL_law 1041 = .ok (.iload_n 3, 1) := dk_29 (dk_at dksL_law_38 17 rfl rfl)
theorem dL_law_1042 : decode cL_law 1042 = .ok (.iconst 2, 1) := dk_5 (dk_at dksL_law_38 18 rfl rfl)
theorem dL_law_1043 : decode cL_law 1043 = .ok (.iadd, 1) := dk_96 (dk_at dksL_law_38 19 rfl rfl)
theorem dL_law_1044 : decode cL_law 1044 = .ok (.iaload, 1) := dk_46 (dk_at dksL_law_38 20 rfl rfl)
theorem dL_law_1045 : decode cL_law 1045 = .ok (.invokevirtual 128, 3) := dk_182 0 128 (dk_at dksL_law_38 21 rfl rfl)
theorem dL_law_1048 : decode cL_law 1048 = .ok (.if_icmp .eq 238, 3) := dk_159 0 238 (dk_at dksL_law_39 0 rfl rfl)
theorem dL_law_1051 : decode cL_law 1051 = .ok (.iconst 0, 1) := dk_3 (dk_at dksL_law_39 3 rfl rfl)
theorem dL_law_1052 : decode cL_law 1052 = .ok (.ireturn, 1) := dk_172 (dk_at dksL_law_39 4 rfl rfl)
theorem dL_law_1053 : decode cL_law 1053 = .ok (.aload_n 1, 1) := dk_43 (dk_at dksL_law_39 5 rfl rfl)
theorem dL_law_1054 : decode cL_law 1054 = .ok (.aload_n 0, 1) := dk_42 (dk_at dksL_law_39 6 rfl rfl)
theorem dL_law_1055 : decode cL_law 1055 = .ok (.iload_n 3, 1) := dk_29 (dk_at dksL_law_39 7 rfl rfl)
theorem dL_law_1056 : decode cL_law 1056 = .ok (.iconst 1, 1) := dk_4 (dk_at dksL_law_39 8 rfl rfl)
theorem dL_law_1057 : decode cL_law 1057 = .ok (.iadd, 1) := dk_96 (dk_at dksL_law_39 9 rfl rfl)
theorem dL_law_1058 : decode cL_law 1058 = .ok (.iaload, 1) := dk_46 (dk_at dksL_law_39 10 rfl rfl)
theorem dL_law_1059 : decode cL_law 1059 = .ok (.aload_n 0, 1) := dk_42 (dk_at dksL_law_39 11 rfl rfl)
theorem dL_law_1060 : decode cL_law 1060 = .ok (.iload_n 3, 1) := dk_29 (dk_at dksL_law_39 12 rfl rfl)
theorem dL_law_1061 : decode cL_law 1061 = .ok (.iconst 2, 1) := dk_5 (dk_at dksL_law_39 13 rfl rfl)
theorem dL_law_1062 : decode cL_law 1062 = .ok (.iadd, 1) := dk_96 (dk_at dksL_law_39 14 rfl rfl)
theorem dL_law_1063 : decode cL_law 1063 = .ok (.iaload, 1) := dk_46 (dk_at dksL_law_39 15 rfl rfl)
theorem dL_law_1064 : decode cL_law 1064 = .ok (.invokevirtual 129, 3) := dk_182 0 129 (dk_at dksL_law_39 16 rfl rfl)
theorem dL_law_1067 : decode cL_law 1067 = .ok (.aload_n 2, 1) := dk_44 (dk_at dksL_law_39 19 rfl rfl)
theorem dL_law_1068 : decode cL_law 1068 = .ok (.aload_n 0, 1) := dk_42 (dk_at dksL_law_39 20 rfl rfl)
theorem dL_law_1069 : decode cL_law 1069 = .ok (.iload_n 3, 1) := dk_29 (dk_at dksL_law_39 21 rfl rfl)
theorem dL_law_1070 : decode cL_law 1070 = .ok (.iconst 1, 1) := dk_4 (dk_at dksL_law_39 22 rfl rfl)
theorem dL_law_1071 : decode cL_law 1071 = .ok (.iadd, 1) := dk_96 (dk_at dksL_law_39 23 rfl rfl)
theorem dL_law_1072 : decode cL_law 1072 = .ok (.iaload, 1) := dk_46 (dk_at dksL_law_40 0 rfl rfl)
theorem dL_law_1073 : decode cL_law 1073 = .ok (.aload_n 0, 1) := dk_42 (dk_at dksL_law_40 1 rfl rfl)
theorem dL_law_1074 : decode cL_law 1074 = .ok (.iload_n 3, 1) := dk_29 (dk_at dksL_law_40 2 rfl rfl)
theorem dL_law_1075 : decode cL_law 1075 = .ok (.iconst 2, 1) := dk_5 (dk_at dksL_law_40 3 rfl rfl)
theorem dL_law_1076 : decode cL_law 1076 = .ok (.iadd, 1) := dk_96 (dk_at dksL_law_40 4 rfl rfl)
theorem dL_law_1077 : decode cL_law 1077 = .ok (.iaload, 1) := dk_46 (dk_at dksL_law_40 5 rfl rfl)
theorem dL_law_1078 : decode cL_law 1078 = .ok (.invokevirtual 132, 3) := dk_182 0 132 (dk_at dksL_law_40 6 rfl rfl)
theorem dL_law_1081 : decode cL_law 1081 = .ok (.if_icmp .eq 205, 3) := dk_159 0 205 (dk_at dksL_law_40 9 rfl rfl)
theorem dL_law_1084 : decode cL_law 1084 = .ok (.iconst 0, 1) := dk_3 (dk_at dksL_law_40 12 rfl rfl)
theorem dL_law_1085 : decode cL_law 1085 = .ok (.ireturn, 1) := dk_172 (dk_at dksL_law_40 13 rfl rfl)
theorem dL_law_1086 : decode cL_law 1086 = .ok (.aload_n 1, 1) := dk_43 (dk_at dksL_law_40 14 rfl rfl)
theorem dL_law_1087 : decode cL_law 1087 = .ok (.aload_n 0, 1) := dk_42 (dk_at dksL_law_40 15 rfl rfl)
theorem dL_law_1088 : decode cL_law 1088 = .ok (.iload_n 3, 1) := dk_29 (dk_at dksL_law_40 16 rfl rfl)
theorem dL_law_1089 : decode cL_law 1089 = .ok (.iconst 1, 1) := dk_4 (dk_at dksL_law_40 17 rfl rfl)
theorem dL_law_1090 : decode cL_law 1090 = .ok (.iadd, 1) := dk_96 (dk_at dksL_law_40 18 rfl rfl)
theorem dL_law_1091 : decode cL_law 1091 = .ok (.iaload, 1) := dk_46 (dk_at dksL_law_40 19 rfl rfl)
theorem dL_law_1092 : decode cL_law 1092 = .ok (.invokevirtual 133, 3) := dk_182 0 133 (dk_at dksL_law_40 20 rfl rfl)
theorem dL_law_1095 : decode cL_law 1095 = .ok (.aload_n 2, 1) := dk_44 (dk_at dksL_law_40 23 rfl rfl)
theorem dL_law_1096 : decode cL_law 1096 = .ok (.aload_n 0, 1) := dk_42 (dk_at dksL_law_41 0 rfl rfl)
theorem dL_law_1097 : decode cL_law 1097 = .ok (.iload_n 3, 1) := dk_29 (dk_at dksL_law_41 1 rfl rfl)
theorem dL_law_1098 : decode cL_law 1098 = .ok (.iconst 1, 1) := dk_4 (dk_at dksL_law_41 2 rfl rfl)
theorem dL_law_1099 : decode cL_law 1099 = .ok (.iadd, 1) := dk_96 (dk_at dksL_law_41 3 rfl rfl)
theorem dL_law_1100 : decode cL_law 1100 = .ok (.iaload, 1) := dk_46 (dk_at dksL_law_41 4 rfl rfl)
theorem dL_law_1101 : decode cL_law 1101 = .ok (.invokevirtual 136, 3) := dk_182 0 136 (dk_at dksL_law_41 5 rfl rfl)
theorem dL_law_1104 : decode cL_law 1104 = .ok (.if_icmp .eq 182, 3) := dk_159 0 182 (dk_at dksL_law_41 8 rfl rfl)
theorem dL_law_1107 : decode cL_law 1107 = .ok (.iconst 0, 1) := dk_3 (dk_at dksL_law_41 11 rfl rfl)
theorem dL_law_1108 : decode cL_law 1108 = .ok (.ireturn, 1) := dk_172 (dk_at dksL_law_41 12 rfl rfl)
theorem dL_law_1109 : decode cL_law 1109 = .ok (.aload_n 1, 1) := dk_43 (dk_at dksL_law_41 13 rfl rfl)
theorem dL_law_1110 : decode cL_law 1110 = .ok (.aload_n 0, 1) := dk_42 (dk_at dksL_law_41 14 rfl rfl)
theorem dL_law_1111 : decode cL_law 1111 = .ok (.iload_n 3, 1) := dk_29 (dk_at dksL_law_41 15 rfl rfl)
theorem dL_law_1112 : decode cL_law 1112 = .ok (.iconst 1, 1) := dk_4 (dk_at dksL_law_41 16 rfl rfl)
theorem dL_law_1113 : decode cL_law 1113 = .ok (.iadd, 1) := dk_96 (dk_at dksL_law_41 17 rfl rfl)
theorem dL_law_1114 : decode cL_law 1114 = .ok (.iaload, 1) := dk_46 (dk_at dksL_law_41 18 rfl rfl)
theorem dL_law_1115 : decode cL_law 1115 = .ok (.aload_n 0, 1) := dk_42 (dk_at dksL_law_41 19 rfl rfl)
theorem dL_law_1116 : decode cL_law 1116 = .ok (.iload_n 3, 1) := dk_29 (dk_at dksL_law_41 20 rfl rfl)
theorem dL_law_1117 : decode cL_law 1117 = .ok (.iconst 2, 1) := dk_5 (dk_at dksL_law_41 21 rfl rfl)
theorem dL_law_1118 : decode cL_law 1118 = .ok (.iadd, 1) := dk_96 (dk_at dksL_law_41 22 rfl rfl)
theorem dL_law_1119 : decode cL_law 1119 = .ok (.iaload, 1) := dk_46 (dk_at dksL_law_41 23 rfl rfl)
theorem dL_law_1120 : decode cL_law 1120 = .ok (.invokevirtual 137, 3) := dk_182 0 137 (dk_at dksL_law_42 0 rfl rfl)
theorem dL_law_1123 : decode cL_law 1123 = .ok (.aload_n 2, 1) := dk_44 (dk_at dksL_law_42 3 rfl rfl)
theorem dL_law_1124 : decode cL_law 1124 = .ok (.aload_n 0, 1) := dk_42 (dk_at dksL_law_42 4 rfl rfl)
theorem dL_law_1125 : decode cL_law 1125 = .ok (.iload_n 3, 1) := dk_29 (dk_at dksL_law_42 5 rfl rfl)
theorem dL_law_1126 : decode cL_law 1126 = .ok (.iconst 1, 1) := dk_4 (dk_at dksL_law_42 6 rfl rfl)
theorem dL_law_1127 : decode cL_law 1127 = .ok (.iadd, 1) := dk_96 (dk_at dksL_law_42 7 rfl rfl)
theorem dL_law_1128 : decode cL_law 1128 = .ok (.iaload, 1) := dk_46 (dk_at dksL_law_42 8 rfl rfl)
theorem dL_law_1129 : decode cL_law 1129 = .ok (.aload_n 0, 1) := dk_42 (dk_at dksL_law_42 9 rfl rfl)
theorem dL_law_1130 : decode cL_law 1130 = .ok (.iload_n 3, 1) := dk_29 (dk_at dksL_law_42 10 rfl rfl)
theorem dL_law_1131 : decode cL_law 1131 = .ok (.iconst 2, 1) := dk_5 (dk_at dksL_law_42 11 rfl rfl)
theorem dL_law_1132 : decode cL_law 1132 = .ok (.iadd, 1) := dk_96 (dk_at dksL_law_42 12 rfl rfl)
theorem dL_law_1133 : decode cL_law 1133 = .ok (.iaload, 1) := dk_46 (dk_at dksL_law_42 13 rfl rfl)
theorem dL_law_1134 : decode cL_law 1134 = .ok (.invokevirtual 140, 3) := dk_182 0 140 (dk_at dksL_law_42 14 rfl rfl)
theorem dL_law_1137 : decode cL_law 1137 = .ok (.if_icmp .eq 149, 3) := dk_159 0 149 (dk_at dksL_law_42 17 rfl rfl)
theorem dL_law_1140 : decode cL_law 1140 = .ok (.iconst 0, 1) := dk_3 (dk_at dksL_law_42 20 rfl rfl)
theorem dL_law_1141 : decode cL_law 1141 = .ok (.ireturn, 1) := dk_172 (dk_at dksL_law_42 21 rfl rfl)
theorem dL_law_1142 : decode cL_law 1142 = .ok (.aload_n 1, 1) := dk_43 (dk_at dksL_law_42 22 rfl rfl)
theorem dL_law_1143 : decode cL_law 1143 = .ok (.aload_n 0, 1) := dk_42 (dk_at dksL_law_42 23 rfl rfl)
theorem dL_law_1144 : decode cL_law 1144 = .ok (.iload_n 3, 1) := dk_29 (dk_at dksL_law_43 0 rfl rfl)
theorem dL_law_1145 : decode cL_law 1145 = .ok (.iconst 1, 1) := dk_4 (dk_at dksL_law_43 1 rfl rfl)
theorem dL_law_1146 : decode cL_law 1146 = .ok (.iadd, 1) := dk_96 (dk_at dksL_law_43 2 rfl rfl)
theorem dL_law_1147 : decode cL_law 1147 = .ok (.iaload, 1) := dk_46 (dk_at dksL_law_43 3 rfl rfl)
theorem dL_law_1148 : decode cL_law 1148 = .ok (.invokevirtual 141, 3) := dk_182 0 141 (dk_at dksL_law_43 4 rfl rfl)
theorem dL_law_1151 : decode cL_law 1151 = .ok (.aload_n 2, 1) := dk_44 (dk_at dksL_law_43 7 rfl rfl)
theorem dL_law_1152 : decode cL_law 1152 = .ok (.aload_n 0, 1) := dk_42 (dk_at dksL_law_43 8 rfl rfl)
theorem dL_law_1153 : decode cL_law 1153 = .ok (.iload_n 3, 1) := dk_29 (dk_at dksL_law_43 9 rfl rfl)
theorem dL_law_1154 : decode cL_law 1154 = .ok (.iconst 1, 1) := dk_4 (dk_at dksL_law_43 10 rfl rfl)
theorem dL_law_1155 : decode cL_law 1155 = .ok (.iadd, 1) := dk_96 (dk_at dksL_law_43 11 rfl rfl)
theorem dL_law_1156 : decode cL_law 1156 = .ok (.iaload, 1) := dk_46 (dk_at dksL_law_43 12 rfl rfl)
theorem dL_law_1157 : decode cL_law 1157 = .ok (.invokevirtual 144, 3) := dk_182 0 144 (dk_at dksL_law_43 13 rfl rfl)
theorem dL_law_1160 : decode cL_law 1160 = .ok (.if_icmp .eq 126, 3) := dk_159 0 126 (dk_at dksL_law_43 16 rfl rfl)
theorem dL_law_1163 : decode cL_law 1163 = .ok (.iconst 0, 1) := dk_3 (dk_at dksL_law_43 19 rfl rfl)
theorem dL_law_1164 : decode cL_law 1164 = .ok (.ireturn, 1) := dk_172 (dk_at dksL_law_43 20 rfl rfl)
theorem dL_law_1165 : decode cL_law 1165 = .ok (.aload_n 1, 1) := dk_43 (dk_at dksL_law_43 21 rfl rfl)
theorem dL_law_1166 : decode cL_law 1166 = .ok (.aload_n 0, 1) := dk_42 (dk_at dksL_law_43 22 rfl rfl)
theorem dL_law_1167 : decode cL_law 1167 = .ok (.iload_n 3, 1) := dk_29 (dk_at dksL_law_43 23 rfl rfl)
theorem dL_law_1168 : decode cL_law 1168 = .ok (.iconst 1, 1) := dk_4 (dk_at dksL_law_44 0 rfl rfl)
theorem dL_law_1169 : decode cL_law 1169 = .ok (.iadd, 1) := dk_96 (dk_at dksL_law_44 1 rfl rfl)
theorem dL_law_1170 : decode cL_law 1170 = .ok (.iaload, 1) := dk_46 (dk_at dksL_law_44 2 rfl rfl)
theorem dL_law_1171 : decode cL_law 1171 = .ok (.invokevirtual 145, 3) := dk_182 0 145 (dk_at dksL_law_44 3 rfl rfl)
theorem dL_law_1174 : decode cL_law 1174 = .ok (.aload_n 2, 1) := dk_44 (dk_at dksL_law_44 6 rfl rfl)
theorem dL_law_1175 : decode cL_law 1175 = .ok (.aload_n 0, 1) := dk_42 (dk_at dksL_law_44 7 rfl rfl)
theorem dL_law_1176 : decode cL_law 1176 = .ok (.iload_n 3, 1) := dk_29 (dk_at dksL_law_44 8 rfl rfl)
theorem dL_law_1177 : decode cL_law 1177 = .ok (.iconst 1, 1) := dk_4 (dk_at dksL_law_44 9 rfl rfl)
theorem dL_law_1178 : decode cL_law 1178 = .ok (.iadd, 1) := dk_96 (dk_at dksL_law_44 10 rfl rfl)
theorem dL_law_1179 : decode cL_law 1179 = .ok (.iaload, 1) := dk_46 (dk_at dksL_law_44 11 rfl rfl)
theorem dL_law_1180 : decode cL_law 1180 = .ok (.invokevirtual 148, 3) := dk_182 0 148 (dk_at dksL_law_44 12 rfl rfl)
theorem dL_law_1183 : decode cL_law 1183 = .ok (.if_icmp .eq 103, 3) := dk_159 0 103 (dk_at dksL_law_44 15 rfl rfl)
theorem dL_law_1186 : decode cL_law 1186 = .ok (.iconst 0, 1) := dk_3 (dk_at dksL_law_44 18 rfl rfl)
theorem dL_law_1187 : decode cL_law 1187 = .ok (.ireturn, 1) := dk_172 (dk_at dksL_law_44 19 rfl rfl)
theorem dL_law_1188 : decode cL_law 1188 = .ok (.aload_n 1, 1) := dk_43 (dk_at dksL_law_44 20 rfl rfl)
theorem dL_law_1189 : decode cL_law 1189 = .ok (.aload_n 0, 1) := dk_42 (dk_at dksL_law_44 21 rfl rfl)
theorem dL_law_1190 : decode cL_law 1190 = .ok (.iload_n 3, 1) := dk_29 (dk_at dksL_law_44 22 rfl rfl)
theorem dL_law_1191 : decode cL_law 1191 = .ok (.iconst 1, 1) := dk_4 (dk_at dksL_law_44 23 rfl rfl)
theorem dL_law_1192 : decode cL_law 1192 = .ok (.iadd, 1) := dk_96 (dk_at dksL_law_45 0 rfl rfl)
theorem dL_law_1193 : decode cL_law 1193 = .ok (.iaload, 1) := dk_46 (dk_at dksL_law_45 1 rfl rfl)
theorem dL_law_1194 : decode cL_law 1194 = .ok (.invokevirtual 149, 3) := dk_182 0 149 (dk_at dksL_law_45 2 rfl rfl)
theorem dL_law_1197 : decode cL_law 1197 = .ok (.aload_n 2, 1) := dk_44 (dk_at dksL_law_45 5 rfl rfl)
theorem dL_law_1198 : decode cL_law 1198 = .ok (.aload_n 0, 1) := dk_42 (dk_at dksL_law_45 6 rfl rfl)
theorem dL_law_1199 : decode cL_law 1199 = .ok (.iload_n 3, 1) := dk_29 (dk_at dksL_law_45 7 rfl rfl)
theorem dL_law_1200 : decode cL_law 1200 = .ok (.iconst 1, 1) := dk_4 (dk_at dksL_law_45 8 rfl rfl)
theorem dL_law_1201 : decode cL_law 1201 = .ok (.iadd, 1) := dk_96 (dk_at dksL_law_45 9 rfl rfl)
theorem dL_law_1202 : decode cL_law 1202 = .ok (.iaload, 1) := dk_46 (dk_at dksL_law_45 10 rfl rfl)
theorem dL_law_1203 : decode cL_law 1203 = .ok (.invokevirtual 152, 3) := dk_182 0 152 (dk_at dksL_law_45 11 rfl rfl)
theorem dL_law_1206 : decode cL_law 1206 = .ok (.if_icmp .eq 80, 3) := dk_159 0 80 (dk_at dksL_law_45 14 rfl rfl)
theorem dL_law_1209 : decode cL_law 1209 = .ok (.iconst 0, 1) := dk_3 (dk_at dksL_law_45 17 rfl rfl)
theorem dL_law_1210 : decode cL_law 1210 = .ok (.ireturn, 1) := dk_172 (dk_at dksL_law_45 18 rfl rfl)
theorem dL_law_1211 : decode cL_law 1211 = .ok (.aload_n 1, 1) := dk_43 (dk_at dksL_law_45 19 rfl rfl)
theorem dL_law_1212 : decode cL_law 1212 = .ok (.invokevirtual 153, 3) := dk_182 0 153 (dk_at dksL_law_45 20 rfl rfl)
theorem dL_law_1215 : decode cL_law 1215 = .ok (.aload_n 2, 1) := dk_44 (dk_at dksL_law_45 23 rfl rfl)
theorem dL_law_1216 : decode cL_law 1216 = .ok (.invokevirtual 157, 3) := dk_182 0 157 (dk_at dksL_law_46 0 rfl rfl)
theorem dL_law_1219 : decode cL_law 1219 = .ok (.if_icmp .eq 67, 3) := dk_159 0 67 (dk_at dksL_law_46 3 rfl rfl)
theorem dL_law_1222 : decode cL_law 1222 = .ok (.iconst 0, 1) := dk_3 (dk_at dksL_law_46 6 rfl rfl)
theorem dL_law_1223 : decode cL_law 1223 = .ok (.ireturn, 1) := dk_172 (dk_at dksL_law_46 7 rfl rfl)
theorem dL_law_1224 : decode cL_law 1224 = .ok (.aload_n 1, 1) := dk_43 (dk_at dksL_law_46 8 rfl rfl)
theorem dL_law_1225 : decode cL_law 1225 = .ok (.aload_n 0, 1) := dk_42 (dk_at dksL_law_46 9 rfl rfl)
theorem dL_law_1226 : decode cL_law 1226 = .ok (.iload_n 3, 1) := dk_29 (dk_at dksL_law_46 10 rfl rfl)
theorem dL_law_1227 : decode cL_law 1227 = .ok (.iconst 1, 1) := dk_4 (dk_at dksL_law_46 11 rfl rfl)
theorem dL_law_1228 : decode cL_law 1228 = .ok (.iadd, 1) := dk_96 (dk_at dksL_law_46 12 rfl rfl)
theorem dL_law_1229 : decode cL_law 1229 = .ok (.iaload, 1) := dk_46 (dk_at dksL_law_46 13 rfl rfl)
theorem dL_law_1230 : decode cL_law 1230 = .ok (.ifCond .eq 7, 3) := dk_153 0 7 (dk_at dksL_law_46 14 rfl rfl)
theorem dL_law_1233 : decode cL_law 1233 = .ok (.iconst 1, 1) := dk_4 (dk_at dksL_law_46 17 rfl rfl)
theorem dL_law_1234 : decode cL_law 1234 = .ok (.goto 4, 3) := dk_167 0 4 (dk_at dksL_law_46 18 rfl rfl)
theorem dL_law_1237 : decode cL_law 1237 = .ok (.iconst 0, 1) := dk_3 (dk_at dksL_law_46 21 rfl rfl)
theorem dL_law_1238 : decode cL_law 1238 = .ok (.invokevirtual 158, 3) := dk_182 0 158 (dk_at dksL_law_47 0 rfl rfl)
theorem dL_law_1241 : decode cL_law 1241 = .ok (.aload_n 2, 1) := dk_44 (dk_at dksL_law_47 3 rfl rfl)
theorem dL_law_1242 : decode cL_law 1242 = .ok (.aload_n 0, 1) := dk_42 (dk_at dksL_law_47 4 rfl rfl)
theorem dL_law_1243 : decode cL_law 1243 = .ok (.iload_n 3, 1) := dk_29 (dk_at dksL_law_47 5 rfl rfl)
theorem dL_law_1244 : decode cL_law 1244 = .ok (.iconst 1, 1) := dk_4 (dk_at dksL_law_47 6 rfl rfl)
theorem dL_law_1245 : decode cL_law 1245 = .ok (.iadd, 1) := dk_96 (dk_at dksL_law_47 7 rfl rfl)
theorem dL_law_1246 : decode cL_law 1246 = .ok (.iaload, 1) := dk_46 (dk_at dksL_law_47 8 rfl rfl)
theorem dL_law_1247 : decode cL_law 1247 = .ok (.ifCond .eq 7, 3) := dk_153 0 7 (dk_at dksL_law_47 9 rfl rfl)
theorem dL_law_1250 : decode cL_law 1250 = .ok (.iconst 1, 1) := dk_4 (dk_at dksL_law_47 12 rfl rfl)
theorem dL_law_1251 : decode cL_law 1251 = .ok (.goto 4, 3) := dk_167 0 4 (dk_at dksL_law_47 13 rfl rfl)
theorem dL_law_1254 : decode cL_law 1254 = .ok (.iconst 0, 1) := dk_3 (dk_at dksL_law_47 16 rfl rfl)
theorem dL_law_1255 : decode cL_law 1255 = .ok (.invokevirtual 162, 3) := dk_182 0 162 (dk_at dksL_law_47 17 rfl rfl)
theorem dL_law_1258 : decode cL_law 1258 = .ok (.if_icmp .eq 28, 3) := dk_159 0 28 (dk_at dksL_law_47 20 rfl rfl)
theorem dL_law_1261 : decode cL_law 1261 = .ok (.iconst 0, 1) := dk_3 (dk_at dksL_law_47 23 rfl rfl)
theorem dL_law_1262 : decode cL_law 1262 = .ok (.ireturn, 1) := dk_172 (dk_at dksL_law_48 0 rfl rfl)
theorem dL_law_1263 : decode cL_law 1263 = .ok (.aload_n 1, 1) := dk_43 (dk_at dksL_law_48 1 rfl rfl)
theorem dL_law_1264 : decode cL_law 1264 = .ok (.aload_n 0, 1) := dk_42 (dk_at dksL_law_48 2 rfl rfl)
theorem dL_law_1265 : decode cL_law 1265 = .ok (.iload_n 3, 1) := dk_29 (dk_at dksL_law_48 3 rfl rfl)
theorem dL_law_1266 : decode cL_law 1266 = .ok (.iconst 1, 1) := dk_4 (dk_at dksL_law_48 4 rfl rfl)
theorem dL_law_1267 : decode cL_law 1267 = .ok (.iadd, 1) := dk_96 (dk_at dksL_law_48 5 rfl rfl)
theorem dL_law_1268 : decode cL_law 1268 = .ok (.iaload, 1) := dk_46 (dk_at dksL_law_48 6 rfl rfl)
theorem dL_law_1269 : decode cL_law 1269 = .ok (.invokevirtual 163, 3) := dk_182 0 163 (dk_at dksL_law_48 7 rfl rfl)
theorem dL_law_1272 : decode cL_law 1272 = .ok (.aload_n 2, 1) := dk_44 (dk_at dksL_law_48 10 rfl rfl)
theorem dL_law_1273 : decode cL_law 1273 = .ok (.aload_n 0, 1) := dk_42 (dk_at dksL_law_48 11 rfl rfl)
theorem dL_law_1274 : decode cL_law 1274 = .ok (.iload_n 3, 1) := dk_29 (dk_at dksL_law_48 12 rfl rfl)
theorem dL_law_1275 : decode cL_law 1275 = .ok (.iconst 1, 1) := dk_4 (dk_at dksL_law_48 13 rfl rfl)
theorem dL_law_1276 : decode cL_law 1276 = .ok (.iadd, 1) := dk_96 (dk_at dksL_law_48 14 rfl rfl)
theorem dL_law_1277 : decode cL_law 1277 = .ok (.iaload, 1) := dk_46 (dk_at dksL_law_48 15 rfl rfl)
theorem dL_law_1278 : decode cL_law 1278 = .ok (.invokevirtual 166, 3) := dk_182 0 166 (dk_at dksL_law_48 16 rfl rfl)
theorem dL_law_1281 : decode cL_law 1281 = .ok (.if_icmp .eq 5, 3) := dk_159 0 5 (dk_at dksL_law_48 19 rfl rfl)
theorem dL_law_1284 : decode cL_law 1284 = .ok (.iconst 0, 1) := dk_3 (dk_at dksL_law_48 22 rfl rfl)
theorem dL_law_1285 : decode cL_law 1285 = .ok (.ireturn, 1) := dk_172 (dk_at dksL_law_48 23 rfl rfl)
theorem dL_law_1286 : decode cL_law 1286 = .ok (.iinc 3 6, 3) := dk_132 3 6 (dk_at dksL_law_49 0 rfl rfl)
theorem dL_law_1289 : decode cL_law 1289 = .ok (.goto (-1271), 3) := dk_167 251 9 (dk_at dksL_law_49 3 rfl rfl)
theorem dL_law_1292 : decode cL_law 1292 = .ok (.iconst 1, 1) := dk_4 (dk_at dksL_law_49 6 rfl rfl)
theorem dL_law_1293 : decode cL_law 1293 = .ok (.ireturn, 1) := dk_172 (dk_at dksL_law_49 7 rfl rfl)
