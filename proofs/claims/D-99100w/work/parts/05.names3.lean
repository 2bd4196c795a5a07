/-! KindPostman -/
set_option maxRecDepth 100000
def RX0 : String := "KindPostman"
def TX0 : u_T := fun k => match k with
  | 0 => ("KindPostman", "tape", "[B", true)
  | 1 => ("KindPostman", "taped", "I", false)
  | 2 => ("KindPostman", "faultKind", "I", false)
  | 3 => ("KindPostman", "faultPlace", "I", false)
  | 4 => ("KindPostman", "walk", "LKindPostman$Walk;", true)
  | 5 => ("KindPostman", "kept", "LKindPostman$Walk;", true)
  | 6 => ("KindPostman", "thought", "LKindPostman$Walk;", true)
  | 7 => ("KindPostman", "back", "[LKindPostman$Walk;", true)
  | 8 => ("KindPostman", "backMany", "I", false)
  | 9 => ("KindPostman", "hasImage", "Z", false)
  | 10 => ("KindPostman", "far", "[[I", true)
  | 11 => ("KindPostman", "walked", "[[I", true)
  | 12 => ("KindPostman", "goal", "[I", true)
  | 13 => ("KindPostman", "mostOf", "[I", true)
  | 14 => ("KindPostman", "waysFor", "[[I", true)
  | 15 => ("KindPostman", "groups", "[I", true)
  | _ => ("KindPostman", "changes", "[I", true)
def tyX0 : Nat → FieldType := fun k => match k with
  | 0 => .array .byte
  | 1 => .int
  | 2 => .int
  | 3 => .int
  | 4 => .object "KindPostman$Walk"
  | 5 => .object "KindPostman$Walk"
  | 6 => .object "KindPostman$Walk"
  | 7 => .array (.object "KindPostman$Walk")
  | 8 => .int
  | 9 => .boolean
  | 10 => .array (.array .int)
  | 11 => .array (.array .int)
  | 12 => .array .int
  | 13 => .array .int
  | 14 => .array (.array .int)
  | 15 => .array .int
  | _ => .array .int
abbrev wsX00 : List Cond := u_ws RX0 TX0 17
set_option maxRecDepth 100000 in
theorem nmX0 : ∀ a, a < 17 → ∀ b, b < 17 → a ≠ b → (TX0 a).2.1 ≠ (TX0 b).2.1 := by decide +kernel
set_option maxRecDepth 100000 in
theorem tyX0_ok : ∀ k, k < 17 → parseFieldDescriptor (TX0 k).2.2.1 = some (tyX0 k) := by decide +kernel
abbrev cX0_init : ByteArray := prog_1_method_1_code
def yX0_init : MethodName := ⟨RX0, "<init>", "()V"⟩
def dkwX0_init_7 : List UInt8 := [16, 6, 188, 10, 181, 0, 59, 177]
abbrev dktX0_init_7 : List UInt8 := dkwX0_init_7 ++ []
def dkwX0_init_6 : List UInt8 := [42, 16, 25, 17, 1, 145, 197, 0, 38, 2, 181, 0, 53, 42, 17, 16, 0, 188, 10, 181, 0, 56, 42]
abbrev dktX0_init_6 : List UInt8 := dkwX0_init_6 ++ dktX0_init_7
def dkwX0_init_5 : List UInt8 := [197, 0, 38, 2, 181, 0, 43, 42, 16, 8, 188, 10, 181, 0, 46, 42, 17, 1, 0, 188, 10, 181, 0, 50]
abbrev dktX0_init_5 : List UInt8 := dkwX0_init_5 ++ dktX0_init_6
def dkwX0_init_4 : List UInt8 := [167, 255, 234, 42, 16, 12, 16, 12, 197, 0, 38, 2, 181, 0, 40, 42, 17, 1, 0, 16, 8]
abbrev dktX0_init_4 : List UInt8 := dkwX0_init_4 ++ dktX0_init_5
def dkwX0_init_3 : List UInt8 := [60, 27, 16, 6, 162, 0, 22, 42, 180, 0, 30, 27, 187, 0, 17, 89, 183, 0, 19, 83, 132, 1, 1]
abbrev dktX0_init_3 : List UInt8 := dkwX0_init_3 ++ dktX0_init_4
def dkwX0_init_2 : List UInt8 := [183, 0, 19, 181, 0, 27, 42, 16, 6, 189, 0, 17, 181, 0, 30, 42, 180, 0, 27, 4, 181, 0, 34, 3]
abbrev dktX0_init_2 : List UInt8 := dkwX0_init_2 ++ dktX0_init_3
def dkwX0_init_1 : List UInt8 := [183, 0, 19, 181, 0, 20, 42, 187, 0, 17, 89, 183, 0, 19, 181, 0, 24, 42, 187, 0, 17, 89]
abbrev dktX0_init_1 : List UInt8 := dkwX0_init_1 ++ dktX0_init_2
def dkwX0_init_0 : List UInt8 := [42, 183, 0, 1, 42, 17, 1, 144, 188, 8, 181, 0, 9, 42, 2, 181, 0, 13, 42, 187, 0, 17, 89]
abbrev dktX0_init_0 : List UInt8 := dkwX0_init_0 ++ dktX0_init_1
theorem dksX0_init_0 : cX0_init.data.toList.drop 0 = dktX0_init_0 := by decide +kernel
theorem dksX0_init_1 : cX0_init.data.toList.drop 23 = dktX0_init_1 := dk_seg dksX0_init_0 23 rfl rfl
theorem dksX0_init_2 : cX0_init.data.toList.drop 45 = dktX0_init_2 := dk_seg dksX0_init_1 22 rfl rfl
theorem dksX0_init_3 : cX0_init.data.toList.drop 69 = dktX0_init_3 := dk_seg dksX0_init_2 24 rfl rfl
theorem dksX0_init_4 : cX0_init.data.toList.drop 92 = dktX0_init_4 := dk_seg dksX0_init_3 23 rfl rfl
theorem dksX0_init_5 : cX0_init.data.toList.drop 113 = dktX0_init_5 := dk_seg dksX0_init_4 21 rfl rfl
theorem dksX0_init_6 : cX0_init.data.toList.drop 137 = dktX0_init_6 := dk_seg dksX0_init_5 24 rfl rfl
theorem dksX0_init_7 : cX0_init.data.toList.drop 160 = dktX0_init_7 := dk_seg dksX0_init_6 23 rfl rfl
theorem dX0_init_0 : decode cX0_init 0 = .ok (.aload_n 0, 1) := dk_42 (dk_at dksX0_init_0 0 rfl rfl)
theorem dX0_init_1 : decode cX0_init 1 = .ok (.invokespecial 1, 3) := dk_183 0 1 (dk_at dksX0_init_0 1 rfl rfl)
theorem dX0_init_4 : decode cX0_init 4 = .ok (.aload_n 0, 1) := dk_42 (dk_at dksX0_init_0 4 rfl rfl)
theorem dX0_init_5 : decode cX0_init 5 = .ok (.sipush 400, 3) := dk_17 1 144 (dk_at dksX0_init_0 5 rfl rfl)
theorem dX0_init_8 : decode cX0_init 8 = .ok (.newarray .byte, 2) := dk_188_8 (dk_at dksX0_init_0 8 rfl rfl)
theorem dX0_init_10 : decode cX0_init 10 = .ok (.putfield 9, 3) := dk_181 0 9 (dk_at dksX0_init_0 10 rfl rfl)
theorem dX0_init_13 : decode cX0_init 13 = .ok (.aload_n 0, 1) := dk_42 (dk_at dksX0_init_0 13 rfl rfl)
theorem dX0_init_14 : decode cX0_init 14 = .ok (.iconst (-1), 1) := dk_2 (dk_at dksX0_init_0 14 rfl rfl)
theorem dX0_init_15 : decode cX0_init 15 = .ok (.putfield 13, 3) := dk_181 0 13 (dk_at dksX0_init_0 15 rfl rfl)
theorem dX0_init_18 : decode cX0_init 18 = .ok (.aload_n 0, 1) := dk_42 (dk_at dksX0_init_0 18 rfl rfl)
theorem dX0_init_19 : decode cX0_init 19 = .ok (.new 17, 3) := dk_187 0 17 (dk_at dksX0_init_0 19 rfl rfl)
theorem dX0_init_22 : decode cX0_init 22 = .ok (.dup, 1) := dk_89 (dk_at dksX0_init_0 22 rfl rfl)
theorem dX0_init_23 : decode cX0_init 23 = .ok (.invokespecial 19, 3) := dk_183 0 19 (dk_at dksX0_init_1 0 rfl rfl)
theorem dX0_init_26 : decode cX0_init 26 = .ok (.putfield 20, 3) := dk_181 0 20 (dk_at dksX0_init_1 3 rfl rfl)
theorem dX0_init_29 : decode cX0_init 29 = .ok (.aload_n 0, 1) := dk_42 (dk_at dksX0_init_1 6 rfl rfl)
theorem dX0_init_30 : decode cX0_init 30 = .ok (.new 17, 3) := dk_187 0 17 (dk_at dksX0_init_1 7 rfl rfl)
theorem dX0_init_33 : decode cX0_init 33 = .ok (.dup, 1) := dk_89 (dk_at dksX0_init_1 10 rfl rfl)
theorem dX0_init_34 : decode cX0_init 34 = .ok (.invokespecial 19, 3) := dk_183 0 19 (dk_at dksX0_init_1 11 rfl rfl)
theorem dX0_init_37 : decode cX0_init 37 = .ok (.putfield 24, 3) := dk_181 0 24 (dk_at dksX0_init_1 14 rfl rfl)
theorem dX0_init_40 : decode cX0_init 40 = .ok (.aload_n 0, 1) := dk_42 (dk_at dksX0_init_1 17 rfl rfl)
theorem dX0_init_41 : decode cX0_init 41 = .ok (.new 17, 3) := dk_187 0 17 (dk_at dksX0_init_1 18 rfl rfl)
theorem dX0_init_44 : decode cX0_init 44 = .ok (.dup, 1) := dk_89 (dk_at dksX0_init_1 21 rfl rfl)
theorem dX0_init_45 : decode cX0_init 45 = .ok (.invokespecial 19, 3) := dk_183 0 19 (dk_at dksX0_init_2 0 rfl rfl)
theorem dX0_init_48 : decode cX0_init 48 = .ok (.putfield 27, 3) := dk_181 0 27 (dk_at dksX0_init_2 3 rfl rfl)
theorem dX0_init_51 : decode cX0_init 51 = .ok (.aload_n 0, 1) := dk_42 (dk_at dksX0_init_2 6 rfl rfl)
theorem dX0_init_52 : decode cX0_init 52 = .ok (.bipush 6, 2) := dk_16 6 (dk_at dksX0_init_2 7 rfl rfl)
theorem dX0_init_54 : decode cX0_init 54 = .ok (.anewarray 17, 3) := dk_189 0 17 (dk_at dksX0_init_2 9 rfl rfl)
theorem dX0_init_57 : decode cX0_init 57 = .ok (.putfield 30, 3) := dk_181 0 30 (dk_at dksX0_init_2 12 rfl rfl)
theorem dX0_init_60 : decode cX0_init 60 = .ok (.aload_n 0, 1) := dk_42 (dk_at dksX0_init_2 15 rfl rfl)
theorem dX0_init_61 : decode cX0_init 61 = .ok (.getfield 27, 3) := dk_180 0 27 (dk_at dksX0_init_2 16 rfl rfl)
theorem dX0_init_64 : decode cX0_init 64 = .ok (.iconst 1, 1) := dk_4 (dk_at dksX0_init_2 19 rfl rfl)
theorem dX0_init_65 : decode cX0_init 65 = .ok (.putfield 34, 3) := dk_181 0 34 (dk_at dksX0_init_2 20 rfl rfl)
theorem dX0_init_68 : decode cX0_init 68 = .ok (.iconst 0, 1) := dk_3 (dk_at dksX0_init_2 23 rfl rfl)
theorem dX0_init_69 : decode cX0_init 69 = .ok (.istore_n 1, 1) := dk_60 (dk_at dksX0_init_3 0 rfl rfl)
theorem dX0_init_70 : decode cX0_init 70 = .ok (.iload_n 1, 1) := dk_27 (dk_at dksX0_init_3 1 rfl rfl)
theorem dX0_init_71 : decode cX0_init 71 = .ok (.bipush 6, 2) := dk_16 6 (dk_at dksX0_init_3 2 rfl rfl)
theorem dX0_init_73 : decode cX0_init 73 = .ok (.if_icmp .ge 22, 3) := dk_162 0 22 (dk_at dksX0_init_3 4 rfl rfl)
theorem dX0_init_76 : decode cX0_init 76 = .ok (.aload_n 0, 1) := dk_42 (dk_at dksX0_init_3 7 rfl rfl)
theorem dX0_init_77 : decode cX0_init 77 = .ok (.getfield 30, 3) := dk_180 0 30 (dk_at dksX0_init_3 8 rfl rfl)
theorem dX0_init_80 : decode cX0_init 80 = .ok (.iload_n 1, 1) := dk_27 (dk_at dksX0_init_3 11 rfl rfl)
theorem dX0_init_81 : decode cX0_init 81 = .ok (.new 17, 3) := dk_187 0 17 (dk_at dksX0_init_3 12 rfl rfl)
theorem dX0_init_84 : decode cX0_init 84 = .ok (.dup, 1) := dk_89 (dk_at dksX0_init_3 15 rfl rfl)
theorem dX0_init_85 : decode cX0_init 85 = .ok (.invokespecial 19, 3) := dk_183 0 19 (dk_at dksX0_init_3 16 rfl rfl)
theorem dX0_init_88 : decode cX0_init 88 = .ok (.aastore, 1) := dk_83 (dk_at dksX0_init_3 19 rfl rfl)
theorem dX0_init_89 : decode cX0_init 89 = .ok (.iinc 1 1, 3) := dk_132 1 1 (dk_at dksX0_init_3 20 rfl rfl)
theorem dX0_init_92 : decode cX0_init 92 = .ok (.goto (-22), 3) := dk_167 255 234 (dk_at dksX0_init_4 0 rfl rfl)
theorem dX0_init_95 : decode cX0_init 95 = .ok (.aload_n 0, 1) := dk_42 (dk_at dksX0_init_4 3 rfl rfl)
theorem dX0_init_96 : decode cX0_init 96 = .ok (.bipush 12, 2) := dk_16 12 (dk_at dksX0_init_4 4 rfl rfl)
theorem dX0_init_98 : decode cX0_init 98 = .ok (.bipush 12, 2) := dk_16 12 (dk_at dksX0_init_4 6 rfl rfl)
theorem dX0_init_100 : decode cX0_init 100 = .ok (.multianewarray 38 2, 4) := by decide +kernel
theorem dX0_init_104 : decode cX0_init 104 = .ok (.putfield 40, 3) := dk_181 0 40 (dk_at dksX0_init_4 12 rfl rfl)
theorem dX0_init_107 : decode cX0_init 107 = .ok (.aload_n 0, 1) := dk_42 (dk_at dksX0_init_4 15 rfl rfl)
theorem dX0_init_108 : decode cX0_init 108 = .ok (.sipush 256, 3) := dk_17 1 0 (dk_at dksX0_init_4 16 rfl rfl)
theorem dX0_init_111 : decode cX0_init 111 = .ok (.bipush 8, 2) := dk_16 8 (dk_at dksX0_init_4 19 rfl rfl)
theorem dX0_init_113 : decode cX0_init 113 = .ok (.multianewarray 38 2, 4) := by decide +kernel
theorem dX0_init_117 : decode cX0_init 117 = .ok (.putfield 43, 3) := dk_181 0 43 (dk_at dksX0_init_5 4 rfl rfl)
theorem dX0_init_120 : decode cX0_init 120 = .ok (.aload_n 0, 1) := dk_42 (dk_at dksX0_init_5 7 rfl rfl)
theorem dX0_init_121 : decode cX0_init 121 = .ok (.bipush 8, 2) := dk_16 8 (dk_at dksX0_init_5 8 rfl rfl)
theorem dX0_init_123 : decode cX0_init 123 = .ok (.newarray .int, 2) := dk_188_10 (dk_at dksX0_init_5 10 rfl rfl)
theorem dX0_init_125 : decode cX0_init 125 = .ok (.putfield 46, 3) := dk_181 0 46 (dk_at dksX0_init_5 12 rfl rfl)
theorem dX0_init_128 : decode cX0_init 128 = .ok (.aload_n 0, 1) := dk_42 (dk_at dksX0_init_5 15 rfl rfl)
theorem dX0_init_129 : decode cX0_init 129 = .ok (.sipush 256, 3) := dk_17 1 0 (dk_at dksX0_init_5 16 rfl rfl)
theorem dX0_init_132 : decode cX0_init 132 = .ok (.newarray .int, 2) := dk_188_10 (dk_at dksX0_init_5 19 rfl rfl)
theorem dX0_init_134 : decode cX0_init 134 = .ok (.putfield 50, 3) := dk_181 0 50 (dk_at dksX0_init_5 21 rfl rfl)
theorem dX0_init_137 : decode cX0_init 137 = .ok (.aload_n 0, 1) := dk_42 (dk_at dksX0_init_6 0 rfl rfl)
theorem dX0_init_138 : decode cX0_init 138 = .ok (.bipush 25, 2) := dk_16 25 (dk_at dksX0_init_6 1 rfl rfl)
theorem dX0_init_140 : decode cX0_init 140 = .ok (.sipush 401, 3) := dk_17 1 145 (dk_at dksX0_init_6 3 rfl rfl)
theorem dX0_init_143 : decode cX0_init 143 = .ok (.multianewarray 38 2, 4) := by decide +kernel
theorem dX0_init_147 : decode cX0_init 147 = .ok (.putfield 53, 3) := dk_181 0 53 (dk_at dksX0_init_6 10 rfl rfl)
theorem dX0_init_150 : decode cX0_init 150 = .ok (.aload_n 0, 1) := dk_42 (dk_at dksX0_init_6 13 rfl rfl)
theorem dX0_init_151 : decode cX0_init 151 = .ok (.sipush 4096, 3) := dk_17 16 0 (dk_at dksX0_init_6 14 rfl rfl)
theorem dX0_init_154 : decode cX0_init 154 = .ok (.newarray .int, 2) := dk_188_10 (dk_at dksX0_init_6 17 rfl rfl)
theorem dX0_init_156 : decode cX0_init 156 = .ok (.putfield 56, 3) := dk_181 0 56 (dk_at dksX0_init_6 19 rfl rfl)
theorem dX0_init_159 : decode cX0_init 159 = .ok (.aload_n 0, 1) := dk_42 (dk_at dksX0_init_6 22 rfl rfl)
theorem dX0_init_160 : decode cX0_init 160 = .ok (.bipush 6, 2) := dk_16 6 (dk_at dksX0_init_7 0 rfl rfl)
theorem dX0_init_162 : decode cX0_init 162 = .ok (.newarray .int, 2) := dk_188_10 (dk_at dksX0_init_7 2 rfl rfl)
theorem dX0_init_164 : decode cX0_init 164 = .ok (.putfield 59, 3) := dk_181 0 59 (dk_at dksX0_init_7 4 rfl rfl)
theorem dX0_init_167 : decode cX0_init 167 = .ok (.return_, 1) := dk_177 (dk_at dksX0_init_7 7 rfl rfl)
abbrev cX0_feed : ByteArray := prog_1_method_4_code
def yX0_feed : MethodName := ⟨RX0, "feed", "(IIIII)I"⟩
def dkwX0_feed_2 : List UInt8 := [172]
abbrev dktX0_feed_2 : List UInt8 := dkwX0_feed_2 ++ []
def dkwX0_feed_1 : List UInt8 := [182, 0, 74, 42, 29, 182, 0, 74, 42, 21, 4, 182, 0, 74, 42, 21, 5, 182, 0, 74, 42, 180, 0, 71]
abbrev dktX0_feed_1 : List UInt8 := dkwX0_feed_1 ++ dktX0_feed_2
def dkwX0_feed_0 : List UInt8 := [42, 180, 0, 71, 16, 20, 96, 17, 1, 144, 164, 0, 5, 2, 172, 42, 27, 182, 0, 74, 42, 28]
abbrev dktX0_feed_0 : List UInt8 := dkwX0_feed_0 ++ dktX0_feed_1
theorem dksX0_feed_0 : cX0_feed.data.toList.drop 0 = dktX0_feed_0 := by decide +kernel
theorem dksX0_feed_1 : cX0_feed.data.toList.drop 22 = dktX0_feed_1 := dk_seg dksX0_feed_0 22 rfl rfl
theorem dksX0_feed_2 : cX0_feed.data.toList.drop 46 = dktX0_feed_2 := dk_seg dksX0_feed_1 24 rfl rfl
theorem dX0_feed_0 : decode cX0_feed 0 = .ok (.aload_n 0, 1) := dk_42 (dk_at dksX0_feed_0 0 rfl rfl)
theorem dX0_feed_1 : decode cX0_feed 1 = .ok (.getfield 71, 3) := dk_180 0 71 (dk_at dksX0_feed_0 1 rfl rfl)
theorem dX0_feed_4 : decode cX0_feed 4 = .ok (.bipush 20, 2) := dk_16 20 (dk_at dksX0_feed_0 4 rfl rfl)
theorem dX0_feed_6 : decode cX0_feed 6 = .ok (.iadd, 1) := dk_96 (dk_at dksX0_feed_0 6 rfl rfl)
theorem dX0_feed_7 : decode cX0_feed 7 = .ok (.sipush 400, 3) := dk_17 1 144 (dk_at dksX0_feed_0 7 rfl rfl)
theorem dX0_feed_10 : decode cX0_feed 10 = .ok (.if_icmp .le 5, 3) := dk_164 0 5 (dk_at dksX0_feed_0 10 rfl rfl)
theorem dX0_feed_13 : decode cX0_feed 13 = .ok (.iconst (-1), 1) := dk_2 (dk_at dksX0_feed_0 13 rfl rfl)
theorem dX0_feed_14 : decode cX0_feed 14 = .ok (.ireturn, 1) := dk_172 (dk_at dksX0_feed_0 14 rfl rfl)
theorem dX0_feed_15 : decode cX0_feed 15 = .ok (.aload_n 0, 1) := dk_42 (dk_at dksX0_feed_0 15 rfl rfl)
theorem dX0_feed_16 : decode cX0_feed 16 = .ok (.iload_n 1, 1) := dk_27 (dk_at dksX0_feed_0 16 rfl rfl)
theorem dX0_feed_17 : decode cX0_feed 17 = .ok (.invokevirtual 74, 3) := dk_182 0 74 (dk_at dksX0_feed_0 17 rfl rfl)
theorem dX0_feed_20 : decode cX0_feed 20 = .ok (.aload_n 0, 1) := dk_42 (dk_at dksX0_feed_0 20 rfl rfl)
theorem dX0_feed_21 : decode cX0_feed 21 = .ok (.iload_n 2, 1) := dk_28 (dk_at dksX0_feed_0 21 rfl rfl)
theorem dX0_feed_22 : decode cX0_feed 22 = .ok (.invokevirtual 74, 3) := dk_182 0 74 (dk_at dksX0_feed_1 0 rfl rfl)
theorem dX0_feed_25 : decode cX0_feed 25 = .ok (.aload_n 0, 1) := dk_42 (dk_at dksX0_feed_1 3 rfl rfl)
theorem dX0_feed_26 : decode cX0_feed 26 = .ok (.iload_n 3, 1) := dk_29 (dk_at dksX0_feed_1 4 rfl rfl)
theorem dX0_feed_27 : decode cX0_feed 27 = .ok (.invokevirtual 74, 3) := dk_182 0 74 (dk_at dksX0_feed_1 5 rfl rfl)
theorem dX0_feed_30 : decode cX0_feed 30 = .ok (.aload_n 0, 1) := dk_42 (dk_at dksX0_feed_1 8 rfl rfl)
theorem dX0_feed_31 : decode cX0_feed 31 = .ok (.iload 4, 2) := dk_21 4 (dk_at dksX0_feed_1 9 rfl rfl)
theorem dX0_feed_33 : decode cX0_feed 33 = .ok (.invokevirtual 74, 3) := dk_182 0 74 (dk_at dksX0_feed_1 11 rfl rfl)
theorem dX0_feed_36 : decode cX0_feed 36 = .ok (.aload_n 0, 1) := dk_42 (dk_at dksX0_feed_1 14 rfl rfl)
theorem dX0_feed_37 : decode cX0_feed 37 = .ok (.iload 5, 2) := dk_21 5 (dk_at dksX0_feed_1 15 rfl rfl)
theorem dX0_feed_39 : decode cX0_feed 39 = .ok (.invokevirtual 74, 3) := dk_182 0 74 (dk_at dksX0_feed_1 17 rfl rfl)
theorem dX0_feed_42 : decode cX0_feed 42 = .ok (.aload_n 0, 1) := dk_42 (dk_at dksX0_feed_1 20 rfl rfl)
theorem dX0_feed_43 : decode cX0_feed 43 = .ok (.getfield 71, 3) := dk_180 0 71 (dk_at dksX0_feed_1 21 rfl rfl)
theorem dX0_feed_46 : decode cX0_feed 46 = .ok (.ireturn, 1) := dk_172 (dk_at dksX0_feed_2 0 rfl rfl)
abbrev cX0_word : ByteArray := prog_1_method_5_code
def yX0_word : MethodName := ⟨RX0, "word", "(I)V"⟩
def dkwX0_word_1 : List UInt8 := [180, 0, 71, 4, 96, 181, 0, 71, 132, 2, 248, 167, 255, 226, 177]
abbrev dktX0_word_1 : List UInt8 := dkwX0_word_1 ++ []
def dkwX0_word_0 : List UInt8 := [16, 24, 61, 28, 155, 0, 32, 42, 180, 0, 9, 42, 180, 0, 71, 27, 28, 122, 145, 84, 42, 89]
abbrev dktX0_word_0 : List UInt8 := dkwX0_word_0 ++ dktX0_word_1
theorem dksX0_word_0 : cX0_word.data.toList.drop 0 = dktX0_word_0 := by decide +kernel
theorem dksX0_word_1 : cX0_word.data.toList.drop 22 = dktX0_word_1 := dk_seg dksX0_word_0 22 rfl rfl
theorem dX0_word_0 : decode cX0_word 0 = .ok (.bipush 24, 2) := dk_16 24 (dk_at dksX0_word_0 0 rfl rfl)
theorem dX0_word_2 : decode cX0_word 2 = .ok (.istore_n 2, 1) := dk_61 (dk_at dksX0_word_0 2 rfl rfl)
theorem dX0_word_3 : decode cX0_word 3 = .ok (.iload_n 2, 1) := dk_28 (dk_at dksX0_word_0 3 rfl rfl)
theorem dX0_word_4 : decode cX0_word 4 = .ok (.ifCond .lt 32, 3) := dk_155 0 32 (dk_at dksX0_word_0 4 rfl rfl)
theorem dX0_word_7 : decode cX0_word 7 = .ok (.aload_n 0, 1) := dk_42 (dk_at dksX0_word_0 7 rfl rfl)
theorem dX0_word_8 : decode cX0_word 8 = .ok (.getfield 9, 3) := dk_180 0 9 (dk_at dksX0_word_0 8 rfl rfl)
theorem dX0_word_11 : decode cX0_word 11 = .ok (.aload_n 0, 1) := dk_42 (dk_at dksX0_word_0 11 rfl rfl)
theorem dX0_word_12 : decode cX0_word 12 = .ok (.getfield 71, 3) := dk_180 0 71 (dk_at dksX0_word_0 12 rfl rfl)
theorem dX0_word_15 : decode cX0_word 15 = .ok (.iload_n 1, 1) := dk_27 (dk_at dksX0_word_0 15 rfl rfl)
theorem dX0_word_16 : decode cX0_word 16 = .ok (.iload_n 2, 1) := dk_28 (dk_at dksX0_word_0 16 rfl rfl)
theorem dX0_word_17 : decode cX0_word 17 = .ok (.ishr, 1) := dk_122 (dk_at dksX0_word_0 17 rfl rfl)
theorem dX0_word_18 : decode cX0_word 18 = .ok (.i2b, 1) := dk_145 (dk_at dksX0_word_0 18 rfl rfl)
theorem dX0_word_19 : decode cX0_word 19 = .ok (.bastore, 1) := dk_84 (dk_at dksX0_word_0 19 rfl rfl)
theorem dX0_word_20 : decode cX0_word 20 = .ok (.aload_n 0, 1) := dk_42 (dk_at dksX0_word_0 20 rfl rfl)
theorem dX0_word_21 : decode cX0_word 21 = .ok (.dup, 1) := dk_89 (dk_at dksX0_word_0 21 rfl rfl)
theorem dX0_word_22 : decode cX0_word 22 = .ok (.getfield 71, 3) := dk_180 0 71 (dk_at dksX0_word_1 0 rfl rfl)
theorem dX0_word_25 : decode cX0_word 25 = .ok (.iconst 1, 1) := dk_4 (dk_at dksX0_word_1 3 rfl rfl)
theorem dX0_word_26 : decode cX0_word 26 = .ok (.iadd, 1) := dk_96 (dk_at dksX0_word_1 4 rfl rfl)
theorem dX0_word_27 : decode cX0_word 27 = .ok (.putfield 71, 3) := dk_181 0 71 (dk_at dksX0_word_1 5 rfl rfl)
theorem dX0_word_30 : decode cX0_word 30 = .ok (.iinc 2 (-8), 3) := dk_132 2 248 (dk_at dksX0_word_1 8 rfl rfl)
theorem dX0_word_33 : decode cX0_word 33 = .ok (.goto (-30), 3) := dk_167 255 226 (dk_at dksX0_word_1 11 rfl rfl)
theorem dX0_word_36 : decode cX0_word 36 = .ok (.return_, 1) := dk_177 (dk_at dksX0_word_1 14 rfl rfl)
abbrev cX0_end : ByteArray := prog_1_method_6_code
def yX0_end : MethodName := ⟨RX0, "end", "(I)Z"⟩
def dkwX0_end_0 : List UInt8 := [27, 3, 42, 180, 0, 71, 184, 0, 78, 154, 0, 5, 3, 172, 42, 27, 181, 0, 71, 4, 172]
abbrev dktX0_end_0 : List UInt8 := dkwX0_end_0 ++ []
theorem dksX0_end_0 : cX0_end.data.toList.drop 0 = dktX0_end_0 := by decide +kernel
theorem dX0_end_0 : decode cX0_end 0 = .ok (.iload_n 1, 1) := dk_27 (dk_at dksX0_end_0 0 rfl rfl)
theorem dX0_end_1 : decode cX0_end 1 = .ok (.iconst 0, 1) := dk_3 (dk_at dksX0_end_0 1 rfl rfl)
theorem dX0_end_2 : decode cX0_end 2 = .ok (.aload_n 0, 1) := dk_42 (dk_at dksX0_end_0 2 rfl rfl)
theorem dX0_end_3 : decode cX0_end 3 = .ok (.getfield 71, 3) := dk_180 0 71 (dk_at dksX0_end_0 3 rfl rfl)
theorem dX0_end_6 : decode cX0_end 6 = .ok (.invokestatic 78, 3) := dk_184 0 78 (dk_at dksX0_end_0 6 rfl rfl)
theorem dX0_end_9 : decode cX0_end 9 = .ok (.ifCond .ne 5, 3) := dk_154 0 5 (dk_at dksX0_end_0 9 rfl rfl)
theorem dX0_end_12 : decode cX0_end 12 = .ok (.iconst 0, 1) := dk_3 (dk_at dksX0_end_0 12 rfl rfl)
theorem dX0_end_13 : decode cX0_end 13 = .ok (.ireturn, 1) := dk_172 (dk_at dksX0_end_0 13 rfl rfl)
theorem dX0_end_14 : decode cX0_end 14 = .ok (.aload_n 0, 1) := dk_42 (dk_at dksX0_end_0 14 rfl rfl)
theorem dX0_end_15 : decode cX0_end 15 = .ok (.iload_n 1, 1) := dk_27 (dk_at dksX0_end_0 15 rfl rfl)
theorem dX0_end_16 : decode cX0_end 16 = .ok (.putfield 71, 3) := dk_181 0 71 (dk_at dksX0_end_0 16 rfl rfl)
theorem dX0_end_19 : decode cX0_end 19 = .ok (.iconst 1, 1) := dk_4 (dk_at dksX0_end_0 19 rfl rfl)
theorem dX0_end_20 : decode cX0_end 20 = .ok (.ireturn, 1) := dk_172 (dk_at dksX0_end_0 20 rfl rfl)
abbrev cX0_isIn : ByteArray := prog_1_method_2_code
def yX0_isIn : MethodName := ⟨RX0, "isIn", "(III)Z"⟩
def dkwX0_isIn_0 : List UInt8 := [26, 27, 161, 0, 12, 26, 28, 163, 0, 7, 4, 167, 0, 4, 3, 172]
abbrev dktX0_isIn_0 : List UInt8 := dkwX0_isIn_0 ++ []
theorem dksX0_isIn_0 : cX0_isIn.data.toList.drop 0 = dktX0_isIn_0 := by decide +kernel
theorem dX0_isIn_0 : decode cX0_isIn 0 = .ok (.iload_n 0, 1) := dk_26 (dk_at dksX0_isIn_0 0 rfl rfl)
theorem dX0_isIn_1 : decode cX0_isIn 1 = .ok (.iload_n 1, 1) := dk_27 (dk_at dksX0_isIn_0 1 rfl rfl)
theorem dX0_isIn_2 : decode cX0_isIn 2 = .ok (.if_icmp .lt 12, 3) := dk_161 0 12 (dk_at dksX0_isIn_0 2 rfl rfl)
theorem dX0_isIn_5 : decode cX0_isIn 5 = .ok (.iload_n 0, 1) := dk_26 (dk_at dksX0_isIn_0 5 rfl rfl)
theorem dX0_isIn_6 : decode cX0_isIn 6 = .ok (.iload_n 2, 1) := dk_28 (dk_at dksX0_isIn_0 6 rfl rfl)
theorem dX0_isIn_7 : decode cX0_isIn 7 = .ok (.if_icmp .gt 7, 3) := dk_163 0 7 (dk_at dksX0_isIn_0 7 rfl rfl)
theorem dX0_isIn_10 : decode cX0_isIn 10 = .ok (.iconst 1, 1) := dk_4 (dk_at dksX0_isIn_0 10 rfl rfl)
theorem dX0_isIn_11 : decode cX0_isIn 11 = .ok (.goto 4, 3) := dk_167 0 4 (dk_at dksX0_isIn_0 11 rfl rfl)
theorem dX0_isIn_14 : decode cX0_isIn 14 = .ok (.iconst 0, 1) := dk_3 (dk_at dksX0_isIn_0 14 rfl rfl)
theorem dX0_isIn_15 : decode cX0_isIn 15 = .ok (.ireturn, 1) := dk_172 (dk_at dksX0_isIn_0 15 rfl rfl)
abbrev cX0_text : ByteArray := prog_1_method_8_code
def yX0_text : MethodName := ⟨RX0, "text", "(I)I"⟩
def dkwX0_text_3 : List UInt8 := [191]
abbrev dktX0_text_3 : List UInt8 := dkwX0_text_3 ++ []
def dkwX0_text_2 : List UInt8 := [180, 0, 141, 181, 0, 13, 2, 62, 42, 3, 181, 0, 71, 29, 172, 58, 4, 42, 3, 181, 0, 71, 25, 4]
abbrev dktX0_text_2 : List UInt8 := dkwX0_text_2 ++ dktX0_text_3
def dkwX0_text_1 : List UInt8 := [167, 0, 4, 2, 61, 42, 3, 181, 0, 71, 28, 172, 77, 42, 44, 180, 0, 138, 181, 0, 129, 42, 44]
abbrev dktX0_text_1 : List UInt8 := dkwX0_text_1 ++ dktX0_text_2
def dkwX0_text_0 : List UInt8 := [42, 3, 181, 0, 129, 42, 2, 181, 0, 13, 27, 3, 6, 184, 0, 78, 153, 0, 11, 42, 27, 182, 0, 132]
abbrev dktX0_text_0 : List UInt8 := dkwX0_text_0 ++ dktX0_text_1
theorem dksX0_text_0 : cX0_text.data.toList.drop 0 = dktX0_text_0 := by decide +kernel
theorem dksX0_text_1 : cX0_text.data.toList.drop 24 = dktX0_text_1 := dk_seg dksX0_text_0 24 rfl rfl
theorem dksX0_text_2 : cX0_text.data.toList.drop 47 = dktX0_text_2 := dk_seg dksX0_text_1 23 rfl rfl
theorem dksX0_text_3 : cX0_text.data.toList.drop 71 = dktX0_text_3 := dk_seg dksX0_text_2 24 rfl rfl
theorem dX0_text_0 : decode cX0_text 0 = .ok (.aload_n 0, 1) := dk_42 (dk_at dksX0_text_0 0 rfl rfl)
theorem dX0_text_1 : decode cX0_text 1 = .ok (.iconst 0, 1) := dk_3 (dk_at dksX0_text_0 1 rfl rfl)
theorem dX0_text_2 : decode cX0_text 2 = .ok (.putfield 129, 3) := dk_181 0 129 (dk_at dksX0_text_0 2 rfl rfl)
theorem dX0_text_5 : decode cX0_text 5 = .ok (.aload_n 0, 1) := dk_42 (dk_at dksX0_text_0 5 rfl rfl)
theorem dX0_text_6 : decode cX0_text 6 = .ok (.iconst (-1), 1) := dk_2 (dk_at dksX0_text_0 6 rfl rfl)
theorem dX0_text_7 : decode cX0_text 7 = .ok (.putfield 13, 3) := dk_181 0 13 (dk_at dksX0_text_0 7 rfl rfl)
theorem dX0_text_10 : decode cX0_text 10 = .ok (.iload_n 1, 1) := dk_27 (dk_at dksX0_text_0 10 rfl rfl)
theorem dX0_text_11 : decode cX0_text 11 = .ok (.iconst 0, 1) := dk_3 (dk_at dksX0_text_0 11 rfl rfl)
theorem dX0_text_12 : decode cX0_text 12 = .ok (.iconst 3, 1) := dk_6 (dk_at dksX0_text_0 12 rfl rfl)
theorem dX0_text_13 : decode cX0_text 13 = .ok (.invokestatic 78, 3) := dk_184 0 78 (dk_at dksX0_text_0 13 rfl rfl)
theorem dX0_text_16 : decode cX0_text 16 = .ok (.ifCond .eq 11, 3) := dk_153 0 11 (dk_at dksX0_text_0 16 rfl rfl)
theorem dX0_text_19 : decode cX0_text 19 = .ok (.aload_n 0, 1) := dk_42 (dk_at dksX0_text_0 19 rfl rfl)
theorem dX0_text_20 : decode cX0_text 20 = .ok (.iload_n 1, 1) := dk_27 (dk_at dksX0_text_0 20 rfl rfl)
theorem dX0_text_21 : decode cX0_text 21 = .ok (.invokevirtual 132, 3) := dk_182 0 132 (dk_at dksX0_text_0 21 rfl rfl)
theorem dX0_text_24 : decode cX0_text 24 = .ok (.goto 4, 3) := dk_167 0 4 (dk_at dksX0_text_1 0 rfl rfl)
theorem dX0_text_27 : decode cX0_text 27 = .ok (.iconst (-1), 1) := dk_2 (dk_at dksX0_text_1 3 rfl rfl)
theorem dX0_text_28 : decode cX0_text 28 = .ok (.istore_n 2, 1) := dk_61 (dk_at dksX0_text_1 4 rfl rfl)
theorem dX0_text_29 : decode cX0_text 29 = .ok (.aload_n 0, 1) := dk_42 (dk_at dksX0_text_1 5 rfl rfl)
theorem dX0_text_30 : decode cX0_text 30 = .ok (.iconst 0, 1) := dk_3 (dk_at dksX0_text_1 6 rfl rfl)
theorem dX0_text_31 : decode cX0_text 31 = .ok (.putfield 71, 3) := dk_181 0 71 (dk_at dksX0_text_1 7 rfl rfl)
theorem dX0_text_34 : decode cX0_text 34 = .ok (.iload_n 2, 1) := dk_28 (dk_at dksX0_text_1 10 rfl rfl)
theorem dX0_text_35 : decode cX0_text 35 = .ok (.ireturn, 1) := dk_172 (dk_at dksX0_text_1 11 rfl rfl)
theorem dX0_text_36 : decode cX0_text 36 = .ok (.astore_n 2, 1) := dk_77 (dk_at dksX0_text_1 12 rfl rfl)
theorem dX0_text_37 : decode cX0_text 37 = .ok (.aload_n 0, 1) := dk_42 (dk_at dksX0_text_1 13 rfl rfl)
theorem dX0_text_38 : decode cX0_text 38 = .ok (.aload_n 2, 1) := dk_44 (dk_at dksX0_text_1 14 rfl rfl)
theorem dX0_text_39 : decode cX0_text 39 = .ok (.getfield 138, 3) := dk_180 0 138 (dk_at dksX0_text_1 15 rfl rfl)
theorem dX0_text_42 : decode cX0_text 42 = .ok (.putfield 129, 3) := dk_181 0 129 (dk_at dksX0_text_1 18 rfl rfl)
theorem dX0_text_45 : decode cX0_text 45 = .ok (.aload_n 0, 1) := dk_42 (dk_at dksX0_text_1 21 rfl rfl)
theorem dX0_text_46 : decode cX0_text 46 = .ok (.aload_n 2, 1) := dk_44 (dk_at dksX0_text_1 22 rfl rfl)
theorem dX0_text_47 : decode cX0_text 47 = .ok (.getfield 141, 3) := dk_180 0 141 (dk_at dksX0_text_2 0 rfl rfl)
theorem dX0_text_50 : decode cX0_text 50 = .ok (.putfield 13, 3) := dk_181 0 13 (dk_at dksX0_text_2 3 rfl rfl)
theorem dX0_text_53 : decode cX0_text 53 = .ok (.iconst (-1), 1) := dk_2 (dk_at dksX0_text_2 6 rfl rfl)
theorem dX0_text_54 : decode cX0_text 54 = .ok (.istore_n 3, 1) := dk_62 (dk_at dksX0_text_2 7 rfl rfl)
theorem dX0_text_55 : decode cX0_text 55 = .ok (.aload_n 0, 1) := dk_42 (dk_at dksX0_text_2 8 rfl rfl)
theorem dX0_text_56 : decode cX0_text 56 = .ok (.iconst 0, 1) := dk_3 (dk_at dksX0_text_2 9 rfl rfl)
theorem dX0_text_57 : decode cX0_text 57 = .ok (.putfield 71, 3) := dk_181 0 71 (dk_at dksX0_text_2 10 rfl rfl)
theorem dX0_text_60 : decode cX0_text 60 = .ok (.iload_n 3, 1) := dk_29 (dk_at dksX0_text_2 13 rfl rfl)
theorem dX0_text_61 : decode cX0_text 61 = .ok (.ireturn, 1) := dk_172 (dk_at dksX0_text_2 14 rfl rfl)
theorem dX0_text_62 : decode cX0_text 62 = .ok (.astore 4, 2) := dk_58 4 (dk_at dksX0_text_2 15 rfl rfl)
theorem dX0_text_64 : decode cX0_text 64 = .ok (.aload_n 0, 1) := dk_42 (dk_at dksX0_text_2 17 rfl rfl)
theorem dX0_text_65 : decode cX0_text 65 = .ok (.iconst 0, 1) := dk_3 (dk_at dksX0_text_2 18 rfl rfl)
theorem dX0_text_66 : decode cX0_text 66 = .ok (.putfield 71, 3) := dk_181 0 71 (dk_at dksX0_text_2 19 rfl rfl)
theorem dX0_text_69 : decode cX0_text 69 = .ok (.aload 4, 2) := dk_25 4 (dk_at dksX0_text_2 22 rfl rfl)
theorem dX0_text_71 : decode cX0_text 71 = .ok (.athrow, 1) := dk_191 (dk_at dksX0_text_3 0 rfl rfl)
abbrev cX0_reads : ByteArray := prog_1_method_7_code
def yX0_reads : MethodName := ⟨RX0, "reads", "(I)I"⟩
def dkwX0_reads_6 : List UInt8 := [42, 180, 0, 20, 44, 180, 0, 115, 181, 0, 127, 44, 180, 0, 115, 172]
abbrev dktX0_reads_6 : List UInt8 := dkwX0_reads_6 ++ []
def dkwX0_reads_5 : List UInt8 := [181, 0, 118, 42, 182, 0, 105, 87, 44, 180, 0, 115, 172, 42, 180, 0, 20, 44, 182, 0, 121, 181, 0, 124]
abbrev dktX0_reads_5 : List UInt8 := dkwX0_reads_5 ++ dktX0_reads_6
def dkwX0_reads_4 : List UInt8 := [182, 0, 94, 172, 42, 180, 0, 20, 44, 182, 0, 109, 181, 0, 113, 42, 180, 0, 20, 44, 180, 0, 115]
abbrev dktX0_reads_4 : List UInt8 := dkwX0_reads_4 ++ dktX0_reads_5
def dkwX0_reads_3 : List UInt8 := [180, 0, 20, 44, 182, 0, 100, 181, 0, 103, 42, 182, 0, 105, 87, 42, 180, 0, 20, 180, 0, 103]
abbrev dktX0_reads_3 : List UInt8 := dkwX0_reads_3 ++ dktX0_reads_4
def dkwX0_reads_2 : List UInt8 := [42, 180, 0, 20, 44, 182, 0, 87, 181, 0, 91, 42, 180, 0, 20, 180, 0, 91, 182, 0, 94, 172, 42]
abbrev dktX0_reads_2 : List UInt8 := dkwX0_reads_2 ++ dktX0_reads_3
def dkwX0_reads_1 : List UInt8 := [170, 0, 0, 0, 106, 0, 0, 0, 0, 0, 0, 0, 2, 0, 0, 0, 25, 0, 0, 0, 47, 0, 0, 0, 74]
abbrev dktX0_reads_1 : List UInt8 := dkwX0_reads_1 ++ dktX0_reads_2
def dkwX0_reads_0 : List UInt8 := [187, 0, 82, 89, 42, 27, 183, 0, 84, 77, 27]
abbrev dktX0_reads_0 : List UInt8 := dkwX0_reads_0 ++ dktX0_reads_1
theorem dksX0_reads_0 : cX0_reads.data.toList.drop 0 = dktX0_reads_0 := by decide +kernel
theorem dksX0_reads_1 : cX0_reads.data.toList.drop 11 = dktX0_reads_1 := dk_seg dksX0_reads_0 11 rfl rfl
theorem dksX0_reads_2 : cX0_reads.data.toList.drop 36 = dktX0_reads_2 := dk_seg dksX0_reads_1 25 rfl rfl
theorem dksX0_reads_3 : cX0_reads.data.toList.drop 59 = dktX0_reads_3 := dk_seg dksX0_reads_2 23 rfl rfl
theorem dksX0_reads_4 : cX0_reads.data.toList.drop 81 = dktX0_reads_4 := dk_seg dksX0_reads_3 22 rfl rfl
theorem dksX0_reads_5 : cX0_reads.data.toList.drop 104 = dktX0_reads_5 := dk_seg dksX0_reads_4 23 rfl rfl
theorem dksX0_reads_6 : cX0_reads.data.toList.drop 128 = dktX0_reads_6 := dk_seg dksX0_reads_5 24 rfl rfl
theorem dX0_reads_0 : decode cX0_reads 0 = .ok (.new 82, 3) := dk_187 0 82 (dk_at dksX0_reads_0 0 rfl rfl)
theorem dX0_reads_3 : decode cX0_reads 3 = .ok (.dup, 1) := dk_89 (dk_at dksX0_reads_0 3 rfl rfl)
theorem dX0_reads_4 : decode cX0_reads 4 = .ok (.aload_n 0, 1) := dk_42 (dk_at dksX0_reads_0 4 rfl rfl)
theorem dX0_reads_5 : decode cX0_reads 5 = .ok (.iload_n 1, 1) := dk_27 (dk_at dksX0_reads_0 5 rfl rfl)
theorem dX0_reads_6 : decode cX0_reads 6 = .ok (.invokespecial 84, 3) := dk_183 0 84 (dk_at dksX0_reads_0 6 rfl rfl)
theorem dX0_reads_9 : decode cX0_reads 9 = .ok (.astore_n 2, 1) := dk_77 (dk_at dksX0_reads_0 9 rfl rfl)
theorem dX0_reads_10 : decode cX0_reads 10 = .ok (.iload_n 1, 1) := dk_27 (dk_at dksX0_reads_0 10 rfl rfl)
theorem dX0_reads_11 : decode cX0_reads 11 = .ok (.tableswitch 106 0 2 #[25, 47, 74], 25) := by decide +kernel
theorem dX0_reads_36 : decode cX0_reads 36 = .ok (.aload_n 0, 1) := dk_42 (dk_at dksX0_reads_2 0 rfl rfl)
theorem dX0_reads_37 : decode cX0_reads 37 = .ok (.getfield 20, 3) := dk_180 0 20 (dk_at dksX0_reads_2 1 rfl rfl)
theorem dX0_reads_40 : decode cX0_reads 40 = .ok (.aload_n 2, 1) := dk_44 (dk_at dksX0_reads_2 4 rfl rfl)
theorem dX0_reads_41 : decode cX0_reads 41 = .ok (.invokevirtual 87, 3) := dk_182 0 87 (dk_at dksX0_reads_2 5 rfl rfl)
theorem dX0_reads_44 : decode cX0_reads 44 = .ok (.putfield 91, 3) := dk_181 0 91 (dk_at dksX0_reads_2 8 rfl rfl)
theorem dX0_reads_47 : decode cX0_reads 47 = .ok (.aload_n 0, 1) := dk_42 (dk_at dksX0_reads_2 11 rfl rfl)
theorem dX0_reads_48 : decode cX0_reads 48 = .ok (.getfield 20, 3) := dk_180 0 20 (dk_at dksX0_reads_2 12 rfl rfl)
theorem dX0_reads_51 : decode cX0_reads 51 = .ok (.getfield 91, 3) := dk_180 0 91 (dk_at dksX0_reads_2 15 rfl rfl)
theorem dX0_reads_54 : decode cX0_reads 54 = .ok (.invokevirtual 94, 3) := dk_182 0 94 (dk_at dksX0_reads_2 18 rfl rfl)
theorem dX0_reads_57 : decode cX0_reads 57 = .ok (.ireturn, 1) := dk_172 (dk_at dksX0_reads_2 21 rfl rfl)
theorem dX0_reads_58 : decode cX0_reads 58 = .ok (.aload_n 0, 1) := dk_42 (dk_at dksX0_reads_2 22 rfl rfl)
theorem dX0_reads_59 : decode cX0_reads 59 = .ok (.getfield 20, 3) := dk_180 0 20 (dk_at dksX0_reads_3 0 rfl rfl)
theorem dX0_reads_62 : decode cX0_reads 62 = .ok (.aload_n 2, 1) := dk_44 (dk_at dksX0_reads_3 3 rfl rfl)
theorem dX0_reads_63 : decode cX0_reads 63 = .ok (.invokevirtual 100, 3) := dk_182 0 100 (dk_at dksX0_reads_3 4 rfl rfl)
theorem dX0_reads_66 : decode cX0_reads 66 = .ok (.putfield 103, 3) := dk_181 0 103 (dk_at dksX0_reads_3 7 rfl rfl)
theorem dX0_reads_69 : decode cX0_reads 69 = .ok (.aload_n 0, 1) := dk_42 (dk_at dksX0_reads_3 10 rfl rfl)
theorem dX0_reads_70 : decode cX0_reads 70 = .ok (.invokevirtual 105, 3) := dk_182 0 105 (dk_at dksX0_reads_3 11 rfl rfl)
theorem dX0_reads_73 : decode cX0_reads 73 = .ok (.pop, 1) := dk_87 (dk_at dksX0_reads_3 14 rfl rfl)
theorem dX0_reads_74 : decode cX0_reads 74 = .ok (.aload_n 0, 1) := dk_42 (dk_at dksX0_reads_3 15 rfl rfl)
theorem dX0_reads_75 : decode cX0_reads 75 = .ok (.getfield 20, 3) := dk_180 0 20 (dk_at dksX0_reads_3 16 rfl rfl)
theorem dX0_reads_78 : decode cX0_reads 78 = .ok (.getfield 103, 3) := dk_180 0 103 (dk_at dksX0_reads_3 19 rfl rfl)
theorem dX0_reads_81 : decode cX0_reads 81 = .ok (.invokevirtual 94, 3) := dk_182 0 94 (dk_at dksX0_reads_4 0 rfl rfl)
theorem dX0_reads_84 : decode cX0_reads 84 = .ok (.ireturn, 1) := dk_172 (dk_at dksX0_reads_4 3 rfl rfl)
theorem dX0_reads_85 : decode cX0_reads 85 = .ok (.aload_n 0, 1) := dk_42 (dk_at dksX0_reads_4 4 rfl rfl)
theorem dX0_reads_86 : decode cX0_reads 86 = .ok (.getfield 20, 3) := dk_180 0 20 (dk_at dksX0_reads_4 5 rfl rfl)
theorem dX0_reads_89 : decode cX0_reads 89 = .ok (.aload_n 2, 1) := dk_44 (dk_at dksX0_reads_4 8 rfl rfl)
theorem dX0_reads_90 : decode cX0_reads 90 = .ok (.invokevirtual 109, 3) := dk_182 0 109 (dk_at dksX0_reads_4 9 rfl rfl)
theorem dX0_reads_93 : decode cX0_reads 93 = .ok (.putfield 113, 3) := dk_181 0 113 (dk_at dksX0_reads_4 12 rfl rfl)
theorem dX0_reads_96 : decode cX0_reads 96 = .ok (.aload_n 0, 1) := dk_42 (dk_at dksX0_reads_4 15 rfl rfl)
theorem dX0_reads_97 : decode cX0_reads 97 = .ok (.getfield 20, 3) := dk_180 0 20 (dk_at dksX0_reads_4 16 rfl rfl)
theorem dX0_reads_100 : decode cX0_reads 100 = .ok (.aload_n 2, 1) := dk_44 (dk_at dksX0_reads_4 19 rfl rfl)
theorem dX0_reads_101 : decode cX0_reads 101 = .ok (.getfield 115, 3) := dk_180 0 115 (dk_at dksX0_reads_4 20 rfl rfl)
theorem dX0_reads_104 : decode cX0_reads 104 = .ok (.putfield 118, 3) := dk_181 0 118 (dk_at dksX0_reads_5 0 rfl rfl)
theorem dX0_reads_107 : decode cX0_reads 107 = .ok (.aload_n 0, 1) := dk_42 (dk_at dksX0_reads_5 3 rfl rfl)
theorem dX0_reads_108 : decode cX0_reads 108 = .ok (.invokevirtual 105, 3) := dk_182 0 105 (dk_at dksX0_reads_5 4 rfl rfl)
theorem dX0_reads_111 : decode cX0_reads 111 = .ok (.pop, 1) := dk_87 (dk_at dksX0_reads_5 7 rfl rfl)
theorem dX0_reads_112 : decode cX0_reads 112 = .ok (.aload_n 2, 1) := dk_44 (dk_at dksX0_reads_5 8 rfl rfl)
theorem dX0_reads_113 : decode cX0_reads 113 = .ok (.getfield 115, 3) := dk_180 0 115 (dk_at dksX0_reads_5 9 rfl rfl)
theorem dX0_reads_116 : decode cX0_reads 116 = .ok (.ireturn, 1) := dk_172 (dk_at dksX0_reads_5 12 rfl rfl)
theorem dX0_reads_117 : decode cX0_reads 117 = .ok (.aload_n 0, 1) := dk_42 (dk_at dksX0_reads_5 13 rfl rfl)
theorem dX0_reads_118 : decode cX0_reads 118 = .ok (.getfield 20, 3) := dk_180 0 20 (dk_at dksX0_reads_5 14 rfl rfl)
theorem dX0_reads_121 : decode cX0_reads 121 = .ok (.aload_n 2, 1) := dk_44 (dk_at dksX0_reads_5 17 rfl rfl)
theorem dX0_reads_122 : decode cX0_reads 122 = .ok (.invokevirtual 121, 3) := dk_182 0 121 (dk_at dksX0_reads_5 18 rfl rfl)
theorem dX0_reads_125 : decode cX0_reads 125 = .ok (.putfield 124, 3) := dk_181 0 124 (dk_at dksX0_reads_5 21 rfl rfl)
theorem dX0_reads_128 : decode cX0_reads 128 = .ok (.aload_n 0, 1) := dk_42 (dk_at dksX0_reads_6 0 rfl rfl)
theorem dX0_reads_129 : decode cX0_reads 129 = .ok (.getfield 20, 3) := dk_180 0 20 (dk_at dksX0_reads_6 1 rfl rfl)
theorem dX0_reads_132 : decode cX0_reads 132 = .ok (.aload_n 2, 1) := dk_44 (dk_at dksX0_reads_6 4 rfl rfl)
theorem dX0_reads_133 : decode cX0_reads 133 = .ok (.getfield 115, 3) := dk_180 0 115 (dk_at dksX0_reads_6 5 rfl rfl)
theorem dX0_reads_136 : decode cX0_reads 136 = .ok (.putfield 127, 3) := dk_181 0 127 (dk_at dksX0_reads_6 8 rfl rfl)
theorem dX0_reads_139 : decode cX0_reads 139 = .ok (.aload_n 2, 1) := dk_44 (dk_at dksX0_reads_6 11 rfl rfl)
theorem dX0_reads_140 : decode cX0_reads 140 = .ok (.getfield 115, 3) := dk_180 0 115 (dk_at dksX0_reads_6 12 rfl rfl)
theorem dX0_reads_143 : decode cX0_reads 143 = .ok (.ireturn, 1) := dk_172 (dk_at dksX0_reads_6 15 rfl rfl)
abbrev cX0_forgets : ByteArray := prog_1_method_10_code
def yX0_forgets : MethodName := ⟨RX0, "forgets", "()Z"⟩
def dkwX0_forgets_0 : List UInt8 := [42, 3, 181, 0, 144, 4, 172]
abbrev dktX0_forgets_0 : List UInt8 := dkwX0_forgets_0 ++ []
theorem dksX0_forgets_0 : cX0_forgets.data.toList.drop 0 = dktX0_forgets_0 := by decide +kernel
theorem dX0_forgets_0 : decode cX0_forgets 0 = .ok (.aload_n 0, 1) := dk_42 (dk_at dksX0_forgets_0 0 rfl rfl)
theorem dX0_forgets_1 : decode cX0_forgets 1 = .ok (.iconst 0, 1) := dk_3 (dk_at dksX0_forgets_0 1 rfl rfl)
theorem dX0_forgets_2 : decode cX0_forgets 2 = .ok (.putfield 144, 3) := dk_181 0 144 (dk_at dksX0_forgets_0 2 rfl rfl)
theorem dX0_forgets_5 : decode cX0_forgets 5 = .ok (.iconst 1, 1) := dk_4 (dk_at dksX0_forgets_0 5 rfl rfl)
theorem dX0_forgets_6 : decode cX0_forgets 6 = .ok (.ireturn, 1) := dk_172 (dk_at dksX0_forgets_0 6 rfl rfl)
abbrev cX0_fault : ByteArray := prog_1_method_9_code
def yX0_fault : MethodName := ⟨RX0, "fault", "(I)I"⟩
def dkwX0_fault_1 : List UInt8 := [172]
abbrev dktX0_fault_1 : List UInt8 := dkwX0_fault_1 ++ []
def dkwX0_fault_0 : List UInt8 := [27, 154, 0, 10, 42, 180, 0, 129, 167, 0, 16, 27, 4, 160, 0, 10, 42, 180, 0, 13, 167, 0, 4, 2]
abbrev dktX0_fault_0 : List UInt8 := dkwX0_fault_0 ++ dktX0_fault_1
theorem dksX0_fault_0 : cX0_fault.data.toList.drop 0 = dktX0_fault_0 := by decide +kernel
theorem dksX0_fault_1 : cX0_fault.data.toList.drop 24 = dktX0_fault_1 := dk_seg dksX0_fault_0 24 rfl rfl
theorem dX0_fault_0 : decode cX0_fault 0 = .ok (.iload_n 1, 1) := dk_27 (dk_at dksX0_fault_0 0 rfl rfl)
theorem dX0_fault_1 : decode cX0_fault 1 = .ok (.ifCond .ne 10, 3) := dk_154 0 10 (dk_at dksX0_fault_0 1 rfl rfl)
theorem dX0_fault_4 : decode cX0_fault 4 = .ok (.aload_n 0, 1) := dk_42 (dk_at dksX0_fault_0 4 rfl rfl)
theorem dX0_fault_5 : decode cX0_fault 5 = .ok (.getfield 129, 3) := dk_180 0 129 (dk_at dksX0_fault_0 5 rfl rfl)
theorem dX0_fault_8 : decode cX0_fault 8 = .ok (.goto 16, 3) := dk_167 0 16 (dk_at dksX0_fault_0 8 rfl rfl)
theorem dX0_fault_11 : decode cX0_fault 11 = .ok (.iload_n 1, 1) := dk_27 (dk_at dksX0_fault_0 11 rfl rfl)
theorem dX0_fault_12 : decode cX0_fault 12 = .ok (.iconst 1, 1) := dk_4 (dk_at dksX0_fault_0 12 rfl rfl)
theorem dX0_fault_13 : decode cX0_fault 13 = .ok (.if_icmp .ne 10, 3) := dk_160 0 10 (dk_at dksX0_fault_0 13 rfl rfl)
theorem dX0_fault_16 : decode cX0_fault 16 = .ok (.aload_n 0, 1) := dk_42 (dk_at dksX0_fault_0 16 rfl rfl)
theorem dX0_fault_17 : decode cX0_fault 17 = .ok (.getfield 13, 3) := dk_180 0 13 (dk_at dksX0_fault_0 17 rfl rfl)
theorem dX0_fault_20 : decode cX0_fault 20 = .ok (.goto 4, 3) := dk_167 0 4 (dk_at dksX0_fault_0 20 rfl rfl)
theorem dX0_fault_23 : decode cX0_fault 23 = .ok (.iconst (-1), 1) := dk_2 (dk_at dksX0_fault_0 23 rfl rfl)
theorem dX0_fault_24 : decode cX0_fault 24 = .ok (.ireturn, 1) := dk_172 (dk_at dksX0_fault_1 0 rfl rfl)
abbrev cX0_undo : ByteArray := prog_1_method_12_code
def yX0_undo : MethodName := ⟨RX0, "undo", "()Z"⟩
def dkwX0_undo_1 : List UInt8 := [180, 0, 30, 42, 180, 0, 144, 50, 182, 0, 147, 4, 172]
abbrev dktX0_undo_1 : List UInt8 := dkwX0_undo_1 ++ []
def dkwX0_undo_0 : List UInt8 := [42, 180, 0, 144, 154, 0, 5, 3, 172, 42, 89, 180, 0, 144, 4, 100, 181, 0, 144, 42, 180, 0, 20, 42]
abbrev dktX0_undo_0 : List UInt8 := dkwX0_undo_0 ++ dktX0_undo_1
theorem dksX0_undo_0 : cX0_undo.data.toList.drop 0 = dktX0_undo_0 := by decide +kernel
theorem dksX0_undo_1 : cX0_undo.data.toList.drop 24 = dktX0_undo_1 := dk_seg dksX0_undo_0 24 rfl rfl
theorem dX0_undo_0 : decode cX0_undo 0 = .ok (.aload_n 0, 1) := dk_42 (dk_at dksX0_undo_0 0 rfl rfl)
theorem dX0_undo_1 : decode cX0_undo 1 = .ok (.getfield 144, 3) := dk_180 0 144 (dk_at dksX0_undo_0 1 rfl rfl)
theorem dX0_undo_4 : decode cX0_undo 4 = .ok (.ifCond .ne 5, 3) := dk_154 0 5 (dk_at dksX0_undo_0 4 rfl rfl)
theorem dX0_undo_7 : decode cX0_undo 7 = .ok (.iconst 0, 1) := dk_3 (dk_at dksX0_undo_0 7 rfl rfl)
theorem dX0_undo_8 : decode cX0_undo 8 = .ok (.ireturn, 1) := dk_172 (dk_at dksX0_undo_0 8 rfl rfl)
theorem dX0_undo_9 : decode cX0_undo 9 = .ok (.aload_n 0, 1) := dk_42 (dk_at dksX0_undo_0 9 rfl rfl)
theorem dX0_undo_10 : decode cX0_undo 10 = .ok (.dup, 1) := dk_89 (dk_at dksX0_undo_0 10 rfl rfl)
theorem dX0_undo_11 : decode cX0_undo 11 = .ok (.getfield 144, 3) := dk_180 0 144 (dk_at dksX0_undo_0 11 rfl rfl)
theorem dX0_undo_14 : decode cX0_undo 14 = .ok (.iconst 1, 1) := dk_4 (dk_at dksX0_undo_0 14 rfl rfl)
theorem dX0_undo_15 : decode cX0_undo 15 = .ok (.isub, 1) := dk_100 (dk_at dksX0_undo_0 15 rfl rfl)
theorem dX0_undo_16 : decode cX0_undo 16 = .ok (.putfield 144, 3) := dk_181 0 144 (dk_at dksX0_undo_0 16 rfl rfl)
theorem dX0_undo_19 : decode cX0_undo 19 = .ok (.aload_n 0, 1) := dk_42 (dk_at dksX0_undo_0 19 rfl rfl)
theorem dX0_undo_20 : decode cX0_undo 20 = .ok (.getfield 20, 3) := dk_180 0 20 (dk_at dksX0_undo_0 20 rfl rfl)
theorem dX0_undo_23 : decode cX0_undo 23 = .ok (.aload_n 0, 1) := dk_42 (dk_at dksX0_undo_0 23 rfl rfl)
theorem dX0_undo_24 : decode cX0_undo 24 = .ok (.getfield 30, 3) := dk_180 0 30 (dk_at dksX0_undo_1 0 rfl rfl)
theorem dX0_undo_27 : decode cX0_undo 27 = .ok (.aload_n 0, 1) := dk_42 (dk_at dksX0_undo_1 3 rfl rfl)
theorem dX0_undo_28 : decode cX0_undo 28 = .ok (.getfield 144, 3) := dk_180 0 144 (dk_at dksX0_undo_1 4 rfl rfl)
theorem dX0_undo_31 : decode cX0_undo 31 = .ok (.aaload, 1) := dk_50 (dk_at dksX0_undo_1 7 rfl rfl)
theorem dX0_undo_32 : decode cX0_undo 32 = .ok (.invokevirtual 147, 3) := dk_182 0 147 (dk_at dksX0_undo_1 8 rfl rfl)
theorem dX0_undo_35 : decode cX0_undo 35 = .ok (.iconst 1, 1) := dk_4 (dk_at dksX0_undo_1 11 rfl rfl)
theorem dX0_undo_36 : decode cX0_undo 36 = .ok (.ireturn, 1) := dk_172 (dk_at dksX0_undo_1 12 rfl rfl)
abbrev cX0_state : ByteArray := prog_1_method_16_code
def yX0_state : MethodName := ⟨RX0, "state", "(I)I"⟩
def dkwX0_state_0 : List UInt8 := [42, 180, 0, 20, 180, 0, 158, 61, 42, 180, 0, 20, 27, 181, 0, 158, 42, 182, 0, 105, 87, 28, 172]
abbrev dktX0_state_0 : List UInt8 := dkwX0_state_0 ++ []
theorem dksX0_state_0 : cX0_state.data.toList.drop 0 = dktX0_state_0 := by decide +kernel
theorem dX0_state_0 : decode cX0_state 0 = .ok (.aload_n 0, 1) := dk_42 (dk_at dksX0_state_0 0 rfl rfl)
theorem dX0_state_1 : decode cX0_state 1 = .ok (.getfield 20, 3) := dk_180 0 20 (dk_at dksX0_state_0 1 rfl rfl)
theorem dX0_state_4 : decode cX0_state 4 = .ok (.getfield 158, 3) := dk_180 0 158 (dk_at dksX0_state_0 4 rfl rfl)
theorem dX0_state_7 : decode cX0_state 7 = .ok (.istore_n 2, 1) := dk_61 (dk_at dksX0_state_0 7 rfl rfl)
theorem dX0_state_8 : decode cX0_state 8 = .ok (.aload_n 0, 1) := dk_42 (dk_at dksX0_state_0 8 rfl rfl)
theorem dX0_state_9 : decode cX0_state 9 = .ok (.getfield 20, 3) := dk_180 0 20 (dk_at dksX0_state_0 9 rfl rfl)
theorem dX0_state_12 : decode cX0_state 12 = .ok (.iload_n 1, 1) := dk_27 (dk_at dksX0_state_0 12 rfl rfl)
theorem dX0_state_13 : decode cX0_state 13 = .ok (.putfield 158, 3) := dk_181 0 158 (dk_at dksX0_state_0 13 rfl rfl)
theorem dX0_state_16 : decode cX0_state 16 = .ok (.aload_n 0, 1) := dk_42 (dk_at dksX0_state_0 16 rfl rfl)
theorem dX0_state_17 : decode cX0_state 17 = .ok (.invokevirtual 105, 3) := dk_182 0 105 (dk_at dksX0_state_0 17 rfl rfl)
theorem dX0_state_20 : decode cX0_state 20 = .ok (.pop, 1) := dk_87 (dk_at dksX0_state_0 20 rfl rfl)
theorem dX0_state_21 : decode cX0_state 21 = .ok (.iload_n 2, 1) := dk_28 (dk_at dksX0_state_0 21 rfl rfl)
theorem dX0_state_22 : decode cX0_state 22 = .ok (.ireturn, 1) := dk_172 (dk_at dksX0_state_0 22 rfl rfl)
abbrev cX0_door : ByteArray := prog_1_method_17_code
def yX0_door : MethodName := ⟨RX0, "door", "(III)I"⟩
def dkwX0_door_3 : List UInt8 := [4, 96, 181, 0, 151, 42, 182, 0, 105, 87, 42, 180, 0, 20, 180, 0, 151, 4, 100, 172]
abbrev dktX0_door_3 : List UInt8 := dkwX0_door_3 ++ []
def dkwX0_door_2 : List UInt8 := [42, 180, 0, 20, 180, 0, 151, 182, 0, 161, 27, 28, 29, 182, 0, 164, 42, 180, 0, 20, 89, 180, 0, 151]
abbrev dktX0_door_2 : List UInt8 := dkwX0_door_2 ++ dktX0_door_3
def dkwX0_door_1 : List UInt8 := [17, 3, 231, 184, 0, 78, 153, 0, 15, 42, 180, 0, 20, 180, 0, 151, 16, 12, 160, 0, 5, 2, 172, 42]
abbrev dktX0_door_1 : List UInt8 := dkwX0_door_1 ++ dktX0_door_2
def dkwX0_door_0 : List UInt8 := [27, 16, 247, 16, 9, 184, 0, 78, 153, 0, 36, 28, 3, 16, 9, 184, 0, 78, 153, 0, 26, 29, 3]
abbrev dktX0_door_0 : List UInt8 := dkwX0_door_0 ++ dktX0_door_1
theorem dksX0_door_0 : cX0_door.data.toList.drop 0 = dktX0_door_0 := by decide +kernel
theorem dksX0_door_1 : cX0_door.data.toList.drop 23 = dktX0_door_1 := dk_seg dksX0_door_0 23 rfl rfl
theorem dksX0_door_2 : cX0_door.data.toList.drop 47 = dktX0_door_2 := dk_seg dksX0_door_1 24 rfl rfl
theorem dksX0_door_3 : cX0_door.data.toList.drop 71 = dktX0_door_3 := dk_seg dksX0_door_2 24 rfl rfl
theorem dX0_door_0 : decode cX0_door 0 = .ok (.iload_n 1, 1) := dk_27 (dk_at dksX0_door_0 0 rfl rfl)
theorem dX0_door_1 : decode cX0_door 1 = .ok (.bipush (-9), 2) := dk_16 247 (dk_at dksX0_door_0 1 rfl rfl)
theorem dX0_door_3 : decode cX0_door 3 = .ok (.bipush 9, 2) := dk_16 9 (dk_at dksX0_door_0 3 rfl rfl)
theorem dX0_door_5 : decode cX0_door 5 = .ok (.invokestatic 78, 3) := dk_184 0 78 (dk_at dksX0_door_0 5 rfl rfl)
theorem dX0_door_8 : decode cX0_door 8 = .ok (.ifCond .eq 36, 3) := dk_153 0 36 (dk_at dksX0_door_0 8 rfl rfl)
theorem dX0_door_11 : decode cX0_door 11 = .ok (.iload_n 2, 1) := dk_28 (dk_at dksX0_door_0 11 rfl rfl)
theorem dX0_door_12 : decode cX0_door 12 = .ok (.iconst 0, 1) := dk_3 (dk_at dksX0_door_0 12 rfl rfl)
theorem dX0_door_13 : decode cX0_door 13 = .ok (.bipush 9, 2) := dk_16 9 (dk_at dksX0_door_0 13 rfl rfl)
theorem dX0_door_15 : decode cX0_door 15 = .ok (.invokestatic 78, 3) := dk_184 0 78 (dk_at dksX0_door_0 15 rfl rfl)
theorem dX0_door_18 : decode cX0_door 18 = .ok (.ifCond .eq 26, 3) := dk_153 0 26 (dk_at dksX0_door_0 18 rfl rfl)
theorem dX0_door_21 : decode cX0_door 21 = .ok (.iload_n 3, 1) := dk_29 (dk_at dksX0_door_0 21 rfl rfl)
theorem dX0_door_22 : decode cX0_door 22 = .ok (.iconst 0, 1) := dk_3 (dk_at dksX0_door_0 22 rfl rfl)
theorem dX0_door_23 : decode cX0_door 23 = .ok (.sipush 999, 3) := dk_17 3 231 (dk_at dksX0_door_1 0 rfl rfl)
theorem dX0_door_26 : decode cX0_door 26 = .ok (.invokestatic 78, 3) := dk_184 0 78 (dk_at dksX0_door_1 3 rfl rfl)
theorem dX0_door_29 : decode cX0_door 29 = .ok (.ifCond .eq 15, 3) := dk_153 0 15 (dk_at dksX0_door_1 6 rfl rfl)
theorem dX0_door_32 : decode cX0_door 32 = .ok (.aload_n 0, 1) := dk_42 (dk_at dksX0_door_1 9 rfl rfl)
theorem dX0_door_33 : decode cX0_door 33 = .ok (.getfield 20, 3) := dk_180 0 20 (dk_at dksX0_door_1 10 rfl rfl)
theorem dX0_door_36 : decode cX0_door 36 = .ok (.getfield 151, 3) := dk_180 0 151 (dk_at dksX0_door_1 13 rfl rfl)
theorem dX0_door_39 : decode cX0_door 39 = .ok (.bipush 12, 2) := dk_16 12 (dk_at dksX0_door_1 16 rfl rfl)
theorem dX0_door_41 : decode cX0_door 41 = .ok (.if_icmp .ne 5, 3) := dk_160 0 5 (dk_at dksX0_door_1 18 rfl rfl)
theorem dX0_door_44 : decode cX0_door 44 = .ok (.iconst (-1), 1) := dk_2 (dk_at dksX0_door_1 21 rfl rfl)
theorem dX0_door_45 : decode cX0_door 45 = .ok (.ireturn, 1) := dk_172 (dk_at dksX0_door_1 22 rfl rfl)
theorem dX0_door_46 : decode cX0_door 46 = .ok (.aload_n 0, 1) := dk_42 (dk_at dksX0_door_1 23 rfl rfl)
theorem dX0_door_47 : decode cX0_door 47 = .ok (.aload_n 0, 1) := dk_42 (dk_at dksX0_door_2 0 rfl rfl)
theorem dX0_door_48 : decode cX0_door 48 = .ok (.getfield 20, 3) := dk_180 0 20 (dk_at dksX0_door_2 1 rfl rfl)
theorem dX0_door_51 : decode cX0_door 51 = .ok (.getfield 151, 3) := dk_180 0 151 (dk_at dksX0_door_2 4 rfl rfl)
theorem dX0_door_54 : decode cX0_door 54 = .ok (.invokevirtual 161, 3) := dk_182 0 161 (dk_at dksX0_door_2 7 rfl rfl)
theorem dX0_door_57 : decode cX0_door 57 = .ok (.iload_n 1, 1) := dk_27 (dk_at dksX0_door_2 10 rfl rfl)
theorem dX0_door_58 : decode cX0_door 58 = .ok (.iload_n 2, 1) := dk_28 (dk_at dksX0_door_2 11 rfl rfl)
theorem dX0_door_59 : decode cX0_door 59 = .ok (.iload_n 3, 1) := dk_29 (dk_at dksX0_door_2 12 rfl rfl)
theorem dX0_door_60 : decode cX0_door 60 = .ok (.invokevirtual 164, 3) := dk_182 0 164 (dk_at dksX0_door_2 13 rfl rfl)
theorem dX0_door_63 : decode cX0_door 63 = .ok (.aload_n 0, 1) := dk_42 (dk_at dksX0_door_2 16 rfl rfl)
theorem dX0_door_64 : decode cX0_door 64 = .ok (.getfield 20, 3) := dk_180 0 20 (dk_at dksX0_door_2 17 rfl rfl)
theorem dX0_door_67 : decode cX0_door 67 = .ok (.dup, 1) := dk_89 (dk_at dksX0_door_2 20 rfl rfl)
theorem dX0_door_68 : decode cX0_door 68 = .ok (.getfield 151, 3) := dk_180 0 151 (dk_at dksX0_door_2 21 rfl rfl)
theorem dX0_door_71 : decode cX0_door 71 = .ok (.iconst 1, 1) := dk_4 (dk_at dksX0_door_3 0 rfl rfl)
theorem dX0_door_72 : decode cX0_door 72 = .ok (.iadd, 1) := dk_96 (dk_at dksX0_door_3 1 rfl rfl)
theorem dX0_door_73 : decode cX0_door 73 = .ok (.putfield 151, 3) := dk_181 0 151 (dk_at dksX0_door_3 2 rfl rfl)
theorem dX0_door_76 : decode cX0_door 76 = .ok (.aload_n 0, 1) := dk_42 (dk_at dksX0_door_3 5 rfl rfl)
theorem dX0_door_77 : decode cX0_door 77 = .ok (.invokevirtual 105, 3) := dk_182 0 105 (dk_at dksX0_door_3 6 rfl rfl)
theorem dX0_door_80 : decode cX0_door 80 = .ok (.pop, 1) := dk_87 (dk_at dksX0_door_3 9 rfl rfl)
theorem dX0_door_81 : decode cX0_door 81 = .ok (.aload_n 0, 1) := dk_42 (dk_at dksX0_door_3 10 rfl rfl)
theorem dX0_door_82 : decode cX0_door 82 = .ok (.getfield 20, 3) := dk_180 0 20 (dk_at dksX0_door_3 11 rfl rfl)
theorem dX0_door_85 : decode cX0_door 85 = .ok (.getfield 151, 3) := dk_180 0 151 (dk_at dksX0_door_3 14 rfl rfl)
theorem dX0_door_88 : decode cX0_door 88 = .ok (.iconst 1, 1) := dk_4 (dk_at dksX0_door_3 17 rfl rfl)
theorem dX0_door_89 : decode cX0_door 89 = .ok (.isub, 1) := dk_100 (dk_at dksX0_door_3 18 rfl rfl)
theorem dX0_door_90 : decode cX0_door 90 = .ok (.ireturn, 1) := dk_172 (dk_at dksX0_door_3 19 rfl rfl)
abbrev cX0_door_2 : ByteArray := prog_1_method_15_code
def yX0_door_2 : MethodName := ⟨RX0, "door", "(I)LKindPostman$Door;"⟩
def dkwX0_door_2_0 : List UInt8 := [42, 180, 0, 20, 180, 0, 154, 27, 50, 176]
abbrev dktX0_door_2_0 : List UInt8 := dkwX0_door_2_0 ++ []
theorem dksX0_door_2_0 : cX0_door_2.data.toList.drop 0 = dktX0_door_2_0 := by decide +kernel
theorem dX0_door_2_0 : decode cX0_door_2 0 = .ok (.aload_n 0, 1) := dk_42 (dk_at dksX0_door_2_0 0 rfl rfl)
theorem dX0_door_2_1 : decode cX0_door_2 1 = .ok (.getfield 20, 3) := dk_180 0 20 (dk_at dksX0_door_2_0 1 rfl rfl)
theorem dX0_door_2_4 : decode cX0_door_2 4 = .ok (.getfield 154, 3) := dk_180 0 154 (dk_at dksX0_door_2_0 4 rfl rfl)
theorem dX0_door_2_7 : decode cX0_door_2 7 = .ok (.iload_n 1, 1) := dk_27 (dk_at dksX0_door_2_0 7 rfl rfl)
theorem dX0_door_2_8 : decode cX0_door_2 8 = .ok (.aaload, 1) := dk_50 (dk_at dksX0_door_2_0 8 rfl rfl)
theorem dX0_door_2_9 : decode cX0_door_2 9 = .ok (.areturn, 1) := dk_176 (dk_at dksX0_door_2_0 9 rfl rfl)
abbrev cX0_set : ByteArray := prog_1_method_19_code
def yX0_set : MethodName := ⟨RX0, "set", "(III)Z"⟩
def dkwX0_set_4 : List UInt8 := [180, 0, 20, 29, 181, 0, 189, 42, 182, 0, 105, 172]
abbrev dktX0_set_4 : List UInt8 := dkwX0_set_4 ++ []
def dkwX0_set_3 : List UInt8 := [42, 28, 182, 0, 161, 29, 181, 0, 183, 167, 0, 22, 42, 180, 0, 20, 29, 181, 0, 186, 167, 0, 11, 42]
abbrev dktX0_set_3 : List UInt8 := dkwX0_set_3 ++ dktX0_set_4
def dkwX0_set_2 : List UInt8 := [42, 28, 182, 0, 161, 29, 181, 0, 177, 167, 0, 46, 42, 28, 182, 0, 161, 29, 181, 0, 180, 167, 0, 34]
abbrev dktX0_set_2 : List UInt8 := dkwX0_set_2 ++ dktX0_set_3
def dkwX0_set_1 : List UInt8 := [170, 0, 0, 0, 0, 0, 78, 0, 0, 0, 0, 0, 0, 0, 3, 0, 0, 0, 31, 0, 0, 0, 43, 0, 0, 0, 55, 0, 0, 0, 67]
abbrev dktX0_set_1 : List UInt8 := dkwX0_set_1 ++ dktX0_set_2
def dkwX0_set_0 : List UInt8 := [42, 27, 28, 29, 182, 0, 174, 154, 0, 5, 3, 172, 27]
abbrev dktX0_set_0 : List UInt8 := dkwX0_set_0 ++ dktX0_set_1
theorem dksX0_set_0 : cX0_set.data.toList.drop 0 = dktX0_set_0 := by decide +kernel
theorem dksX0_set_1 : cX0_set.data.toList.drop 13 = dktX0_set_1 := dk_seg dksX0_set_0 13 rfl rfl
theorem dksX0_set_2 : cX0_set.data.toList.drop 44 = dktX0_set_2 := dk_seg dksX0_set_1 31 rfl rfl
theorem dksX0_set_3 : cX0_set.data.toList.drop 68 = dktX0_set_3 := dk_seg dksX0_set_2 24 rfl rfl
theorem dksX0_set_4 : cX0_set.data.toList.drop 92 = dktX0_set_4 := dk_seg dksX0_set_3 24 rfl rfl
theorem dX0_set_0 : decode cX0_set 0 = .ok (.aload_n 0, 1) := dk_42 (dk_at dksX0_set_0 0 rfl rfl)
theorem dX0_set_1 : decode cX0_set 1 = .ok (.iload_n 1, 1) := dk_27 (dk_at dksX0_set_0 1 rfl rfl)
theorem dX0_set_2 : decode cX0_set 2 = .ok (.iload_n 2, 1) := dk_28 (dk_at dksX0_set_0 2 rfl rfl)
theorem dX0_set_3 : decode cX0_set 3 = .ok (.iload_n 3, 1) := dk_29 (dk_at dksX0_set_0 3 rfl rfl)
theorem dX0_set_4 : decode cX0_set 4 = .ok (.invokevirtual 174, 3) := dk_182 0 174 (dk_at dksX0_set_0 4 rfl rfl)
theorem dX0_set_7 : decode cX0_set 7 = .ok (.ifCond .ne 5, 3) := dk_154 0 5 (dk_at dksX0_set_0 7 rfl rfl)
theorem dX0_set_10 : decode cX0_set 10 = .ok (.iconst 0, 1) := dk_3 (dk_at dksX0_set_0 10 rfl rfl)
theorem dX0_set_11 : decode cX0_set 11 = .ok (.ireturn, 1) := dk_172 (dk_at dksX0_set_0 11 rfl rfl)
theorem dX0_set_12 : decode cX0_set 12 = .ok (.iload_n 1, 1) := dk_27 (dk_at dksX0_set_0 12 rfl rfl)
theorem dX0_set_13 : decode cX0_set 13 = .ok (.tableswitch 78 0 3 #[31, 43, 55, 67], 31) := by decide +kernel
theorem dX0_set_44 : decode cX0_set 44 = .ok (.aload_n 0, 1) := dk_42 (dk_at dksX0_set_2 0 rfl rfl)
theorem dX0_set_45 : decode cX0_set 45 = .ok (.iload_n 2, 1) := dk_28 (dk_at dksX0_set_2 1 rfl rfl)
theorem dX0_set_46 : decode cX0_set 46 = .ok (.invokevirtual 161, 3) := dk_182 0 161 (dk_at dksX0_set_2 2 rfl rfl)
theorem dX0_set_49 : decode cX0_set 49 = .ok (.iload_n 3, 1) := dk_29 (dk_at dksX0_set_2 5 rfl rfl)
theorem dX0_set_50 : decode cX0_set 50 = .ok (.putfield 177, 3) := dk_181 0 177 (dk_at dksX0_set_2 6 rfl rfl)
theorem dX0_set_53 : decode cX0_set 53 = .ok (.goto 46, 3) := dk_167 0 46 (dk_at dksX0_set_2 9 rfl rfl)
theorem dX0_set_56 : decode cX0_set 56 = .ok (.aload_n 0, 1) := dk_42 (dk_at dksX0_set_2 12 rfl rfl)
theorem dX0_set_57 : decode cX0_set 57 = .ok (.iload_n 2, 1) := dk_28 (dk_at dksX0_set_2 13 rfl rfl)
theorem dX0_set_58 : decode cX0_set 58 = .ok (.invokevirtual 161, 3) := dk_182 0 161 (dk_at dksX0_set_2 14 rfl rfl)
theorem dX0_set_61 : decode cX0_set 61 = .ok (.iload_n 3, 1) := dk_29 (dk_at dksX0_set_2 17 rfl rfl)
theorem dX0_set_62 : decode cX0_set 62 = .ok (.putfield 180, 3) := dk_181 0 180 (dk_at dksX0_set_2 18 rfl rfl)
theorem dX0_set_65 : decode cX0_set 65 = .ok (.goto 34, 3) := dk_167 0 34 (dk_at dksX0_set_2 21 rfl rfl)
theorem dX0_set_68 : decode cX0_set 68 = .ok (.aload_n 0, 1) := dk_42 (dk_at dksX0_set_3 0 rfl rfl)
theorem dX0_set_69 : decode cX0_set 69 = .ok (.iload_n 2, 1) := dk_28 (dk_at dksX0_set_3 1 rfl rfl)
theorem dX0_set_70 : decode cX0_set 70 = .ok (.invokevirtual 161, 3) := dk_182 0 161 (dk_at dksX0_set_3 2 rfl rfl)
theorem dX0_set_73 : decode cX0_set 73 = .ok (.iload_n 3, 1) := dk_29 (dk_at dksX0_set_3 5 rfl rfl)
theorem dX0_set_74 : decode cX0_set 74 = .ok (.putfield 183, 3) := dk_181 0 183 (dk_at dksX0_set_3 6 rfl rfl)
theorem dX0_set_77 : decode cX0_set 77 = .ok (.goto 22, 3) := dk_167 0 22 (dk_at dksX0_set_3 9 rfl rfl)
theorem dX0_set_80 : decode cX0_set 80 = .ok (.aload_n 0, 1) := dk_42 (dk_at dksX0_set_3 12 rfl rfl)
theorem dX0_set_81 : decode cX0_set 81 = .ok (.getfield 20, 3) := dk_180 0 20 (dk_at dksX0_set_3 13 rfl rfl)
theorem dX0_set_84 : decode cX0_set 84 = .ok (.iload_n 3, 1) := dk_29 (dk_at dksX0_set_3 16 rfl rfl)
theorem dX0_set_85 : decode cX0_set 85 = .ok (.putfield 186, 3) := dk_181 0 186 (dk_at dksX0_set_3 17 rfl rfl)
theorem dX0_set_88 : decode cX0_set 88 = .ok (.goto 11, 3) := dk_167 0 11 (dk_at dksX0_set_3 20 rfl rfl)
theorem dX0_set_91 : decode cX0_set 91 = .ok (.aload_n 0, 1) := dk_42 (dk_at dksX0_set_3 23 rfl rfl)
theorem dX0_set_92 : decode cX0_set 92 = .ok (.getfield 20, 3) := dk_180 0 20 (dk_at dksX0_set_4 0 rfl rfl)
theorem dX0_set_95 : decode cX0_set 95 = .ok (.iload_n 3, 1) := dk_29 (dk_at dksX0_set_4 3 rfl rfl)
theorem dX0_set_96 : decode cX0_set 96 = .ok (.putfield 189, 3) := dk_181 0 189 (dk_at dksX0_set_4 4 rfl rfl)
theorem dX0_set_99 : decode cX0_set 99 = .ok (.aload_n 0, 1) := dk_42 (dk_at dksX0_set_4 7 rfl rfl)
theorem dX0_set_100 : decode cX0_set 100 = .ok (.invokevirtual 105, 3) := dk_182 0 105 (dk_at dksX0_set_4 8 rfl rfl)
theorem dX0_set_103 : decode cX0_set 103 = .ok (.ireturn, 1) := dk_172 (dk_at dksX0_set_4 11 rfl rfl)
abbrev cX0_canSet : ByteArray := prog_1_method_18_code
def yX0_canSet : MethodName := ⟨RX0, "canSet", "(III)Z"⟩
def dkwX0_canSet_6 : List UInt8 := [167, 0, 4, 3, 172]
abbrev dktX0_canSet_6 : List UInt8 := dkwX0_canSet_6 ++ []
def dkwX0_canSet_5 : List UInt8 := [3, 172, 27, 6, 7, 184, 0, 78, 153, 0, 17, 29, 3, 16, 99, 184, 0, 78, 153, 0, 7, 4]
abbrev dktX0_canSet_5 : List UInt8 := dkwX0_canSet_5 ++ dktX0_canSet_6
def dkwX0_canSet_4 : List UInt8 := [172, 42, 28, 182, 0, 170, 153, 0, 18, 29, 3, 17, 3, 231, 184, 0, 78, 153, 0, 7, 4, 167, 0, 4]
abbrev dktX0_canSet_4 : List UInt8 := dkwX0_canSet_4 ++ dktX0_canSet_5
def dkwX0_canSet_3 : List UInt8 := [172, 42, 28, 182, 0, 170, 153, 0, 17, 29, 3, 16, 9, 184, 0, 78, 153, 0, 7, 4, 167, 0, 4, 3]
abbrev dktX0_canSet_3 : List UInt8 := dkwX0_canSet_3 ++ dktX0_canSet_4
def dkwX0_canSet_2 : List UInt8 := [42, 28, 182, 0, 170, 153, 0, 18, 29, 16, 247, 16, 9, 184, 0, 78, 153, 0, 7, 4, 167, 0, 4, 3]
abbrev dktX0_canSet_2 : List UInt8 := dkwX0_canSet_2 ++ dktX0_canSet_3
def dkwX0_canSet_1 : List UInt8 := [170, 0, 0, 0, 0, 0, 101, 0, 0, 0, 0, 0, 0, 0, 2, 0, 0, 0, 27, 0, 0, 0, 52, 0, 0, 0, 76]
abbrev dktX0_canSet_1 : List UInt8 := dkwX0_canSet_1 ++ dktX0_canSet_2
def dkwX0_canSet_0 : List UInt8 := [27]
abbrev dktX0_canSet_0 : List UInt8 := dkwX0_canSet_0 ++ dktX0_canSet_1
theorem dksX0_canSet_0 : cX0_canSet.data.toList.drop 0 = dktX0_canSet_0 := by decide +kernel
theorem dksX0_canSet_1 : cX0_canSet.data.toList.drop 1 = dktX0_canSet_1 := dk_seg dksX0_canSet_0 1 rfl rfl
theorem dksX0_canSet_2 : cX0_canSet.data.toList.drop 28 = dktX0_canSet_2 := dk_seg dksX0_canSet_1 27 rfl rfl
theorem dksX0_canSet_3 : cX0_canSet.data.toList.drop 52 = dktX0_canSet_3 := dk_seg dksX0_canSet_2 24 rfl rfl
theorem dksX0_canSet_4 : cX0_canSet.data.toList.drop 76 = dktX0_canSet_4 := dk_seg dksX0_canSet_3 24 rfl rfl
theorem dksX0_canSet_5 : cX0_canSet.data.toList.drop 100 = dktX0_canSet_5 := dk_seg dksX0_canSet_4 24 rfl rfl
theorem dksX0_canSet_6 : cX0_canSet.data.toList.drop 122 = dktX0_canSet_6 := dk_seg dksX0_canSet_5 22 rfl rfl
theorem dX0_canSet_0 : decode cX0_canSet 0 = .ok (.iload_n 1, 1) := dk_27 (dk_at dksX0_canSet_0 0 rfl rfl)
theorem dX0_canSet_1 : decode cX0_canSet 1 = .ok (.tableswitch 101 0 2 #[27, 52, 76], 27) := by decide +kernel
theorem dX0_canSet_28 : decode cX0_canSet 28 = .ok (.aload_n 0, 1) := dk_42 (dk_at dksX0_canSet_2 0 rfl rfl)
theorem dX0_canSet_29 : decode cX0_canSet 29 = .ok (.iload_n 2, 1) := dk_28 (dk_at dksX0_canSet_2 1 rfl rfl)
theorem dX0_canSet_30 : decode cX0_canSet 30 = .ok (.invokevirtual 170, 3) := dk_182 0 170 (dk_at dksX0_canSet_2 2 rfl rfl)
theorem dX0_canSet_33 : decode cX0_canSet 33 = .ok (.ifCond .eq 18, 3) := dk_153 0 18 (dk_at dksX0_canSet_2 5 rfl rfl)
theorem dX0_canSet_36 : decode cX0_canSet 36 = .ok (.iload_n 3, 1) := dk_29 (dk_at dksX0_canSet_2 8 rfl rfl)
theorem dX0_canSet_37 : decode cX0_canSet 37 = .ok (.bipush (-9), 2) := dk_16 247 (dk_at dksX0_canSet_2 9 rfl rfl)
theorem dX0_canSet_39 : decode cX0_canSet 39 = .ok (.bipush 9, 2) := dk_16 9 (dk_at dksX0_canSet_2 11 rfl rfl)
theorem dX0_canSet_41 : decode cX0_canSet 41 = .ok (.invokestatic 78, 3) := dk_184 0 78 (dk_at dksX0_canSet_2 13 rfl rfl)
theorem dX0_canSet_44 : decode cX0_canSet 44 = .ok (.ifCond .eq 7, 3) := dk_153 0 7 (dk_at dksX0_canSet_2 16 rfl rfl)
theorem dX0_canSet_47 : decode cX0_canSet 47 = .ok (.iconst 1, 1) := dk_4 (dk_at dksX0_canSet_2 19 rfl rfl)
theorem dX0_canSet_48 : decode cX0_canSet 48 = .ok (.goto 4, 3) := dk_167 0 4 (dk_at dksX0_canSet_2 20 rfl rfl)
theorem dX0_canSet_51 : decode cX0_canSet 51 = .ok (.iconst 0, 1) := dk_3 (dk_at dksX0_canSet_2 23 rfl rfl)
theorem dX0_canSet_52 : decode cX0_canSet 52 = .ok (.ireturn, 1) := dk_172 (dk_at dksX0_canSet_3 0 rfl rfl)
theorem dX0_canSet_53 : decode cX0_canSet 53 = .ok (.aload_n 0, 1) := dk_42 (dk_at dksX0_canSet_3 1 rfl rfl)
theorem dX0_canSet_54 : decode cX0_canSet 54 = .ok (.iload_n 2, 1) := dk_28 (dk_at dksX0_canSet_3 2 rfl rfl)
theorem dX0_canSet_55 : decode cX0_canSet 55 = .ok (.invokevirtual 170, 3) := dk_182 0 170 (dk_at dksX0_canSet_3 3 rfl rfl)
theorem dX0_canSet_58 : decode cX0_canSet 58 = .ok (.ifCond .eq 17, 3) := dk_153 0 17 (dk_at dksX0_canSet_3 6 rfl rfl)
theorem dX0_canSet_61 : decode cX0_canSet 61 = .ok (.iload_n 3, 1) := dk_29 (dk_at dksX0_canSet_3 9 rfl rfl)
theorem dX0_canSet_62 : decode cX0_canSet 62 = .ok (.iconst 0, 1) := dk_3 (dk_at dksX0_canSet_3 10 rfl rfl)
theorem dX0_canSet_63 : decode cX0_canSet 63 = .ok (.bipush 9, 2) := dk_16 9 (dk_at dksX0_canSet_3 11 rfl rfl)
theorem dX0_canSet_65 : decode cX0_canSet 65 = .ok (.invokestatic 78, 3) := dk_184 0 78 (dk_at dksX0_canSet_3 13 rfl rfl)
theorem dX0_canSet_68 : decode cX0_canSet 68 = .ok (.ifCond .eq 7, 3) := dk_153 0 7 (dk_at dksX0_canSet_3 16 rfl rfl)
theorem dX0_canSet_71 : decode cX0_canSet 71 = .ok (.iconst 1, 1) := dk_4 (dk_at dksX0_canSet_3 19 rfl rfl)
theorem dX0_canSet_72 : decode cX0_canSet 72 = .ok (.goto 4, 3) := dk_167 0 4 (dk_at dksX0_canSet_3 20 rfl rfl)
theorem dX0_canSet_75 : decode cX0_canSet 75 = .ok (.iconst 0, 1) := dk_3 (dk_at dksX0_canSet_3 23 rfl rfl)
theorem dX0_canSet_76 : decode cX0_canSet 76 = .ok (.ireturn, 1) := dk_172 (dk_at dksX0_canSet_4 0 rfl rfl)
theorem dX0_canSet_77 : decode cX0_canSet 77 = .ok (.aload_n 0, 1) := dk_42 (dk_at dksX0_canSet_4 1 rfl rfl)
theorem dX0_canSet_78 : decode cX0_canSet 78 = .ok (.iload_n 2, 1) := dk_28 (dk_at dksX0_canSet_4 2 rfl rfl)
theorem dX0_canSet_79 : decode cX0_canSet 79 = .ok (.invokevirtual 170, 3) := dk_182 0 170 (dk_at dksX0_canSet_4 3 rfl rfl)
theorem dX0_canSet_82 : decode cX0_canSet 82 = .ok (.ifCond .eq 18, 3) := dk_153 0 18 (dk_at dksX0_canSet_4 6 rfl rfl)
theorem dX0_canSet_85 : decode cX0_canSet 85 = .ok (.iload_n 3, 1) := dk_29 (dk_at dksX0_canSet_4 9 rfl rfl)
theorem dX0_canSet_86 : decode cX0_canSet 86 = .ok (.iconst 0, 1) := dk_3 (dk_at dksX0_canSet_4 10 rfl rfl)
theorem dX0_canSet_87 : decode cX0_canSet 87 = .ok (.sipush 999, 3) := dk_17 3 231 (dk_at dksX0_canSet_4 11 rfl rfl)
theorem dX0_canSet_90 : decode cX0_canSet 90 = .ok (.invokestatic 78, 3) := dk_184 0 78 (dk_at dksX0_canSet_4 14 rfl rfl)
theorem dX0_canSet_93 : decode cX0_canSet 93 = .ok (.ifCond .eq 7, 3) := dk_153 0 7 (dk_at dksX0_canSet_4 17 rfl rfl)
theorem dX0_canSet_96 : decode cX0_canSet 96 = .ok (.iconst 1, 1) := dk_4 (dk_at dksX0_canSet_4 20 rfl rfl)
theorem dX0_canSet_97 : decode cX0_canSet 97 = .ok (.goto 4, 3) := dk_167 0 4 (dk_at dksX0_canSet_4 21 rfl rfl)
theorem dX0_canSet_100 : decode cX0_canSet 100 = .ok (.iconst 0, 1) := dk_3 (dk_at dksX0_canSet_5 0 rfl rfl)
theorem dX0_canSet_101 : decode cX0_canSet 101 = .ok (.ireturn, 1) := dk_172 (dk_at dksX0_canSet_5 1 rfl rfl)
theorem dX0_canSet_102 : decode cX0_canSet 102 = .ok (.iload_n 1, 1) := dk_27 (dk_at dksX0_canSet_5 2 rfl rfl)
theorem dX0_canSet_103 : decode cX0_canSet 103 = .ok (.iconst 3, 1) := dk_6 (dk_at dksX0_canSet_5 3 rfl rfl)
theorem dX0_canSet_104 : decode cX0_canSet 104 = .ok (.iconst 4, 1) := dk_7 (dk_at dksX0_canSet_5 4 rfl rfl)
theorem dX0_canSet_105 : decode cX0_canSet 105 = .ok (.invokestatic 78, 3) := dk_184 0 78 (dk_at dksX0_canSet_5 5 rfl rfl)
theorem dX0_canSet_108 : decode cX0_canSet 108 = .ok (.ifCond .eq 17, 3) := dk_153 0 17 (dk_at dksX0_canSet_5 8 rfl rfl)
theorem dX0_canSet_111 : decode cX0_canSet 111 = .ok (.iload_n 3, 1) := dk_29 (dk_at dksX0_canSet_5 11 rfl rfl)
theorem dX0_canSet_112 : decode cX0_canSet 112 = .ok (.iconst 0, 1) := dk_3 (dk_at dksX0_canSet_5 12 rfl rfl)
theorem dX0_canSet_113 : decode cX0_canSet 113 = .ok (.bipush 99, 2) := dk_16 99 (dk_at dksX0_canSet_5 13 rfl rfl)
theorem dX0_canSet_115 : decode cX0_canSet 115 = .ok (.invokestatic 78, 3) := dk_184 0 78 (dk_at dksX0_canSet_5 15 rfl rfl)
theorem dX0_canSet_118 : decode cX0_canSet 118 = .ok (.ifCond .eq 7, 3) := dk_153 0 7 (dk_at dksX0_canSet_5 18 rfl rfl)
theorem dX0_canSet_121 : decode cX0_canSet 121 = .ok (.iconst 1, 1) := dk_4 (dk_at dksX0_canSet_5 21 rfl rfl)
theorem dX0_canSet_122 : decode cX0_canSet 122 = .ok (.goto 4, 3) := dk_167 0 4 (dk_at dksX0_canSet_6 0 rfl rfl)
theorem dX0_canSet_125 : decode cX0_canSet 125 = .ok (.iconst 0, 1) := dk_3 (dk_at dksX0_canSet_6 3 rfl rfl)
theorem dX0_canSet_126 : decode cX0_canSet 126 = .ok (.ireturn, 1) := dk_172 (dk_at dksX0_canSet_6 4 rfl rfl)
abbrev cX0_isDoor : ByteArray := prog_1_method_13_code
def yX0_isDoor : MethodName := ⟨RX0, "isDoor", "(I)Z"⟩
def dkwX0_isDoor_0 : List UInt8 := [27, 3, 42, 180, 0, 20, 180, 0, 151, 4, 100, 184, 0, 78, 172]
abbrev dktX0_isDoor_0 : List UInt8 := dkwX0_isDoor_0 ++ []
theorem dksX0_isDoor_0 : cX0_isDoor.data.toList.drop 0 = dktX0_isDoor_0 := by decide +kernel
theorem dX0_isDoor_0 : decode cX0_isDoor 0 = .ok (.iload_n 1, 1) := dk_27 (dk_at dksX0_isDoor_0 0 rfl rfl)
theorem dX0_isDoor_1 : decode cX0_isDoor 1 = .ok (.iconst 0, 1) := dk_3 (dk_at dksX0_isDoor_0 1 rfl rfl)
theorem dX0_isDoor_2 : decode cX0_isDoor 2 = .ok (.aload_n 0, 1) := dk_42 (dk_at dksX0_isDoor_0 2 rfl rfl)
theorem dX0_isDoor_3 : decode cX0_isDoor 3 = .ok (.getfield 20, 3) := dk_180 0 20 (dk_at dksX0_isDoor_0 3 rfl rfl)
theorem dX0_isDoor_6 : decode cX0_isDoor 6 = .ok (.getfield 151, 3) := dk_180 0 151 (dk_at dksX0_isDoor_0 6 rfl rfl)
theorem dX0_isDoor_9 : decode cX0_isDoor 9 = .ok (.iconst 1, 1) := dk_4 (dk_at dksX0_isDoor_0 9 rfl rfl)
theorem dX0_isDoor_10 : decode cX0_isDoor 10 = .ok (.isub, 1) := dk_100 (dk_at dksX0_isDoor_0 10 rfl rfl)
theorem dX0_isDoor_11 : decode cX0_isDoor 11 = .ok (.invokestatic 78, 3) := dk_184 0 78 (dk_at dksX0_isDoor_0 11 rfl rfl)
theorem dX0_isDoor_14 : decode cX0_isDoor 14 = .ok (.ireturn, 1) := dk_172 (dk_at dksX0_isDoor_0 14 rfl rfl)
abbrev cX0_post : ByteArray := prog_1_method_20_code
def yX0_post : MethodName := ⟨RX0, "post", "(III)I"⟩
def dkwX0_post_2 : List UInt8 := [42, 180, 0, 20, 27, 28, 29, 182, 0, 207, 87, 42, 180, 0, 20, 180, 0, 210, 4, 100, 172]
abbrev dktX0_post_2 : List UInt8 := dkwX0_post_2 ++ []
def dkwX0_post_1 : List UInt8 := [153, 0, 18, 42, 180, 0, 20, 180, 0, 195, 180, 0, 199, 16, 24, 160, 0, 5, 2, 172, 42, 182, 0, 204]
abbrev dktX0_post_1 : List UInt8 := dkwX0_post_1 ++ dktX0_post_2
def dkwX0_post_0 : List UInt8 := [42, 27, 182, 0, 170, 153, 0, 35, 28, 184, 0, 192, 153, 0, 28, 29, 4, 16, 99, 184, 0, 78]
abbrev dktX0_post_0 : List UInt8 := dkwX0_post_0 ++ dktX0_post_1
theorem dksX0_post_0 : cX0_post.data.toList.drop 0 = dktX0_post_0 := by decide +kernel
theorem dksX0_post_1 : cX0_post.data.toList.drop 22 = dktX0_post_1 := dk_seg dksX0_post_0 22 rfl rfl
theorem dksX0_post_2 : cX0_post.data.toList.drop 46 = dktX0_post_2 := dk_seg dksX0_post_1 24 rfl rfl
theorem dX0_post_0 : decode cX0_post 0 = .ok (.aload_n 0, 1) := dk_42 (dk_at dksX0_post_0 0 rfl rfl)
theorem dX0_post_1 : decode cX0_post 1 = .ok (.iload_n 1, 1) := dk_27 (dk_at dksX0_post_0 1 rfl rfl)
theorem dX0_post_2 : decode cX0_post 2 = .ok (.invokevirtual 170, 3) := dk_182 0 170 (dk_at dksX0_post_0 2 rfl rfl)
theorem dX0_post_5 : decode cX0_post 5 = .ok (.ifCond .eq 35, 3) := dk_153 0 35 (dk_at dksX0_post_0 5 rfl rfl)
theorem dX0_post_8 : decode cX0_post 8 = .ok (.iload_n 2, 1) := dk_28 (dk_at dksX0_post_0 8 rfl rfl)
theorem dX0_post_9 : decode cX0_post 9 = .ok (.invokestatic 192, 3) := dk_184 0 192 (dk_at dksX0_post_0 9 rfl rfl)
theorem dX0_post_12 : decode cX0_post 12 = .ok (.ifCond .eq 28, 3) := dk_153 0 28 (dk_at dksX0_post_0 12 rfl rfl)
theorem dX0_post_15 : decode cX0_post 15 = .ok (.iload_n 3, 1) := dk_29 (dk_at dksX0_post_0 15 rfl rfl)
theorem dX0_post_16 : decode cX0_post 16 = .ok (.iconst 1, 1) := dk_4 (dk_at dksX0_post_0 16 rfl rfl)
theorem dX0_post_17 : decode cX0_post 17 = .ok (.bipush 99, 2) := dk_16 99 (dk_at dksX0_post_0 17 rfl rfl)
theorem dX0_post_19 : decode cX0_post 19 = .ok (.invokestatic 78, 3) := dk_184 0 78 (dk_at dksX0_post_0 19 rfl rfl)
theorem dX0_post_22 : decode cX0_post 22 = .ok (.ifCond .eq 18, 3) := dk_153 0 18 (dk_at dksX0_post_1 0 rfl rfl)
theorem dX0_post_25 : decode cX0_post 25 = .ok (.aload_n 0, 1) := dk_42 (dk_at dksX0_post_1 3 rfl rfl)
theorem dX0_post_26 : decode cX0_post 26 = .ok (.getfield 20, 3) := dk_180 0 20 (dk_at dksX0_post_1 4 rfl rfl)
theorem dX0_post_29 : decode cX0_post 29 = .ok (.getfield 195, 3) := dk_180 0 195 (dk_at dksX0_post_1 7 rfl rfl)
theorem dX0_post_32 : decode cX0_post 32 = .ok (.getfield 199, 3) := dk_180 0 199 (dk_at dksX0_post_1 10 rfl rfl)
theorem dX0_post_35 : decode cX0_post 35 = .ok (.bipush 24, 2) := dk_16 24 (dk_at dksX0_post_1 13 rfl rfl)
theorem dX0_post_37 : decode cX0_post 37 = .ok (.if_icmp .ne 5, 3) := dk_160 0 5 (dk_at dksX0_post_1 15 rfl rfl)
theorem dX0_post_40 : decode cX0_post 40 = .ok (.iconst (-1), 1) := dk_2 (dk_at dksX0_post_1 18 rfl rfl)
theorem dX0_post_41 : decode cX0_post 41 = .ok (.ireturn, 1) := dk_172 (dk_at dksX0_post_1 19 rfl rfl)
theorem dX0_post_42 : decode cX0_post 42 = .ok (.aload_n 0, 1) := dk_42 (dk_at dksX0_post_1 20 rfl rfl)
theorem dX0_post_43 : decode cX0_post 43 = .ok (.invokevirtual 204, 3) := dk_182 0 204 (dk_at dksX0_post_1 21 rfl rfl)
theorem dX0_post_46 : decode cX0_post 46 = .ok (.aload_n 0, 1) := dk_42 (dk_at dksX0_post_2 0 rfl rfl)
theorem dX0_post_47 : decode cX0_post 47 = .ok (.getfield 20, 3) := dk_180 0 20 (dk_at dksX0_post_2 1 rfl rfl)
theorem dX0_post_50 : decode cX0_post 50 = .ok (.iload_n 1, 1) := dk_27 (dk_at dksX0_post_2 4 rfl rfl)
theorem dX0_post_51 : decode cX0_post 51 = .ok (.iload_n 2, 1) := dk_28 (dk_at dksX0_post_2 5 rfl rfl)
theorem dX0_post_52 : decode cX0_post 52 = .ok (.iload_n 3, 1) := dk_29 (dk_at dksX0_post_2 6 rfl rfl)
theorem dX0_post_53 : decode cX0_post 53 = .ok (.invokevirtual 207, 3) := dk_182 0 207 (dk_at dksX0_post_2 7 rfl rfl)
theorem dX0_post_56 : decode cX0_post 56 = .ok (.pop, 1) := dk_87 (dk_at dksX0_post_2 10 rfl rfl)
theorem dX0_post_57 : decode cX0_post 57 = .ok (.aload_n 0, 1) := dk_42 (dk_at dksX0_post_2 11 rfl rfl)
theorem dX0_post_58 : decode cX0_post 58 = .ok (.getfield 20, 3) := dk_180 0 20 (dk_at dksX0_post_2 12 rfl rfl)
theorem dX0_post_61 : decode cX0_post 61 = .ok (.getfield 210, 3) := dk_180 0 210 (dk_at dksX0_post_2 15 rfl rfl)
theorem dX0_post_64 : decode cX0_post 64 = .ok (.iconst 1, 1) := dk_4 (dk_at dksX0_post_2 18 rfl rfl)
theorem dX0_post_65 : decode cX0_post 65 = .ok (.isub, 1) := dk_100 (dk_at dksX0_post_2 19 rfl rfl)
theorem dX0_post_66 : decode cX0_post 66 = .ok (.ireturn, 1) := dk_172 (dk_at dksX0_post_2 20 rfl rfl)
abbrev cX0_isKind : ByteArray := prog_1_method_14_code
def yX0_isKind : MethodName := ⟨RX0, "isKind", "(I)Z"⟩
def dkwX0_isKind_0 : List UInt8 := [26, 3, 16, 6, 184, 0, 78, 172]
abbrev dktX0_isKind_0 : List UInt8 := dkwX0_isKind_0 ++ []
theorem dksX0_isKind_0 : cX0_isKind.data.toList.drop 0 = dktX0_isKind_0 := by decide +kernel
theorem dX0_isKind_0 : decode cX0_isKind 0 = .ok (.iload_n 0, 1) := dk_26 (dk_at dksX0_isKind_0 0 rfl rfl)
theorem dX0_isKind_1 : decode cX0_isKind 1 = .ok (.iconst 0, 1) := dk_3 (dk_at dksX0_isKind_0 1 rfl rfl)
theorem dX0_isKind_2 : decode cX0_isKind 2 = .ok (.bipush 6, 2) := dk_16 6 (dk_at dksX0_isKind_0 2 rfl rfl)
theorem dX0_isKind_4 : decode cX0_isKind 4 = .ok (.invokestatic 78, 3) := dk_184 0 78 (dk_at dksX0_isKind_0 4 rfl rfl)
theorem dX0_isKind_7 : decode cX0_isKind 7 = .ok (.ireturn, 1) := dk_172 (dk_at dksX0_isKind_0 7 rfl rfl)
abbrev cX0_remembers : ByteArray := prog_1_method_11_code
def yX0_remembers : MethodName := ⟨RX0, "remembers", "()V"⟩
def dkwX0_remembers_3 : List UInt8 := [180, 0, 20, 182, 0, 147, 42, 89, 180, 0, 144, 4, 96, 181, 0, 144, 177]
abbrev dktX0_remembers_3 : List UInt8 := dkwX0_remembers_3 ++ []
def dkwX0_remembers_2 : List UInt8 := [8, 43, 83, 42, 89, 180, 0, 144, 4, 100, 181, 0, 144, 42, 180, 0, 30, 42, 180, 0, 144, 50, 42]
abbrev dktX0_remembers_2 : List UInt8 := dkwX0_remembers_2 ++ dktX0_remembers_3
def dkwX0_remembers_1 : List UInt8 := [42, 180, 0, 30, 28, 4, 100, 42, 180, 0, 30, 28, 50, 83, 132, 2, 1, 167, 255, 233, 42, 180, 0, 30]
abbrev dktX0_remembers_1 : List UInt8 := dkwX0_remembers_1 ++ dktX0_remembers_2
def dkwX0_remembers_0 : List UInt8 := [42, 180, 0, 144, 16, 6, 160, 0, 55, 42, 180, 0, 30, 3, 50, 76, 4, 61, 28, 16, 6, 162, 0, 23]
abbrev dktX0_remembers_0 : List UInt8 := dkwX0_remembers_0 ++ dktX0_remembers_1
theorem dksX0_remembers_0 : cX0_remembers.data.toList.drop 0 = dktX0_remembers_0 := by decide +kernel
theorem dksX0_remembers_1 : cX0_remembers.data.toList.drop 24 = dktX0_remembers_1 := dk_seg dksX0_remembers_0 24 rfl rfl
theorem dksX0_remembers_2 : cX0_remembers.data.toList.drop 48 = dktX0_remembers_2 := dk_seg dksX0_remembers_1 24 rfl rfl
theorem dksX0_remembers_3 : cX0_remembers.data.toList.drop 71 = dktX0_remembers_3 := dk_seg dksX0_remembers_2 23 rfl rfl
theorem dX0_remembers_0 : decode cX0_remembers 0 = .ok (.aload_n 0, 1) := dk_42 (dk_at dksX0_remembers_0 0 rfl rfl)
theorem dX0_remembers_1 : decode cX0_remembers 1 = .ok (.getfield 144, 3) := dk_180 0 144 (dk_at dksX0_remembers_0 1 rfl rfl)
theorem dX0_remembers_4 : decode cX0_remembers 4 = .ok (.bipush 6, 2) := dk_16 6 (dk_at dksX0_remembers_0 4 rfl rfl)
theorem dX0_remembers_6 : decode cX0_remembers 6 = .ok (.if_icmp .ne 55, 3) := dk_160 0 55 (dk_at dksX0_remembers_0 6 rfl rfl)
theorem dX0_remembers_9 : decode cX0_remembers 9 = .ok (.aload_n 0, 1) := dk_42 (dk_at dksX0_remembers_0 9 rfl rfl)
theorem dX0_remembers_10 : decode cX0_remembers 10 = .ok (.getfield 30, 3) := dk_180 0 30 (dk_at dksX0_remembers_0 10 rfl rfl)
theorem dX0_remembers_13 : decode cX0_remembers 13 = .ok (.iconst 0, 1) := dk_3 (dk_at dksX0_remembers_0 13 rfl rfl)
theorem dX0_remembers_14 : decode cX0_remembers 14 = .ok (.aaload, 1) := dk_50 (dk_at dksX0_remembers_0 14 rfl rfl)
theorem dX0_remembers_15 : decode cX0_remembers 15 = .ok (.astore_n 1, 1) := dk_76 (dk_at dksX0_remembers_0 15 rfl rfl)
theorem dX0_remembers_16 : decode cX0_remembers 16 = .ok (.iconst 1, 1) := dk_4 (dk_at dksX0_remembers_0 16 rfl rfl)
theorem dX0_remembers_17 : decode cX0_remembers 17 = .ok (.istore_n 2, 1) := dk_61 (dk_at dksX0_remembers_0 17 rfl rfl)
theorem dX0_remembers_18 : decode cX0_remembers 18 = .ok (.iload_n 2, 1) := dk_28 (dk_at dksX0_remembers_0 18 rfl rfl)
theorem dX0_remembers_19 : decode cX0_remembers 19 = .ok (.bipush 6, 2) := dk_16 6 (dk_at dksX0_remembers_0 19 rfl rfl)
theorem dX0_remembers_21 : decode cX0_remembers 21 = .ok (.if_icmp .ge 23, 3) := dk_162 0 23 (dk_at dksX0_remembers_0 21 rfl rfl)
theorem dX0_remembers_24 : decode cX0_remembers 24 = .ok (.aload_n 0, 1) := dk_42 (dk_at dksX0_remembers_1 0 rfl rfl)
theorem dX0_remembers_25 : decode cX0_remembers 25 = .ok (.getfield 30, 3) := dk_180 0 30 (dk_at dksX0_remembers_1 1 rfl rfl)
theorem dX0_remembers_28 : decode cX0_remembers 28 = .ok (.iload_n 2, 1) := dk_28 (dk_at dksX0_remembers_1 4 rfl rfl)
theorem dX0_remembers_29 : decode cX0_remembers 29 = .ok (.iconst 1, 1) := dk_4 (dk_at dksX0_remembers_1 5 rfl rfl)
theorem dX0_remembers_30 : decode cX0_remembers 30 = .ok (.isub, 1) := dk_100 (dk_at dksX0_remembers_1 6 rfl rfl)
theorem dX0_remembers_31 : decode cX0_remembers 31 = .ok (.aload_n 0, 1) := dk_42 (dk_at dksX0_remembers_1 7 rfl rfl)
theorem dX0_remembers_32 : decode cX0_remembers 32 = .ok (.getfield 30, 3) := dk_180 0 30 (dk_at dksX0_remembers_1 8 rfl rfl)
theorem dX0_remembers_35 : decode cX0_remembers 35 = .ok (.iload_n 2, 1) := dk_28 (dk_at dksX0_remembers_1 11 rfl rfl)
theorem dX0_remembers_36 : decode cX0_remembers 36 = .ok (.aaload, 1) := dk_50 (dk_at dksX0_remembers_1 12 rfl rfl)
theorem dX0_remembers_37 : decode cX0_remembers 37 = .ok (.aastore, 1) := dk_83 (dk_at dksX0_remembers_1 13 rfl rfl)
theorem dX0_remembers_38 : decode cX0_remembers 38 = .ok (.iinc 2 1, 3) := dk_132 2 1 (dk_at dksX0_remembers_1 14 rfl rfl)
theorem dX0_remembers_41 : decode cX0_remembers 41 = .ok (.goto (-23), 3) := dk_167 255 233 (dk_at dksX0_remembers_1 17 rfl rfl)
theorem dX0_remembers_44 : decode cX0_remembers 44 = .ok (.aload_n 0, 1) := dk_42 (dk_at dksX0_remembers_1 20 rfl rfl)
theorem dX0_remembers_45 : decode cX0_remembers 45 = .ok (.getfield 30, 3) := dk_180 0 30 (dk_at dksX0_remembers_1 21 rfl rfl)
theorem dX0_remembers_48 : decode cX0_remembers 48 = .ok (.iconst 5, 1) := dk_8 (dk_at dksX0_remembers_2 0 rfl rfl)
theorem dX0_remembers_49 : decode cX0_remembers 49 = .ok (.aload_n 1, 1) := dk_43 (dk_at dksX0_remembers_2 1 rfl rfl)
theorem dX0_remembers_50 : decode cX0_remembers 50 = .ok (.aastore, 1) := dk_83 (dk_at dksX0_remembers_2 2 rfl rfl)
theorem dX0_remembers_51 : decode cX0_remembers 51 = .ok (.aload_n 0, 1) := dk_42 (dk_at dksX0_remembers_2 3 rfl rfl)
theorem dX0_remembers_52 : decode cX0_remembers 52 = .ok (.dup, 1) := dk_89 (dk_at dksX0_remembers_2 4 rfl rfl)
theorem dX0_remembers_53 : decode cX0_remembers 53 = .ok (.getfield 144, 3) := dk_180 0 144 (dk_at dksX0_remembers_2 5 rfl rfl)
theorem dX0_remembers_56 : decode cX0_remembers 56 = .ok (.iconst 1, 1) := dk_4 (dk_at dksX0_remembers_2 8 rfl rfl)
theorem dX0_remembers_57 : decode cX0_remembers 57 = .ok (.isub, 1) := dk_100 (dk_at dksX0_remembers_2 9 rfl rfl)
theorem dX0_remembers_58 : decode cX0_remembers 58 = .ok (.putfield 144, 3) := dk_181 0 144 (dk_at dksX0_remembers_2 10 rfl rfl)
theorem dX0_remembers_61 : decode cX0_remembers 61 = .ok (.aload_n 0, 1) := dk_42 (dk_at dksX0_remembers_2 13 rfl rfl)
theorem dX0_remembers_62 : decode cX0_remembers 62 = .ok (.getfield 30, 3) := dk_180 0 30 (dk_at dksX0_remembers_2 14 rfl rfl)
theorem dX0_remembers_65 : decode cX0_remembers 65 = .ok (.aload_n 0, 1) := dk_42 (dk_at dksX0_remembers_2 17 rfl rfl)
theorem dX0_remembers_66 : decode cX0_remembers 66 = .ok (.getfield 144, 3) := dk_180 0 144 (dk_at dksX0_remembers_2 18 rfl rfl)
theorem dX0_remembers_69 : decode cX0_remembers 69 = .ok (.aaload, 1) := dk_50 (dk_at dksX0_remembers_2 21 rfl rfl)
theorem dX0_remembers_70 : decode cX0_remembers 70 = .ok (.aload_n 0, 1) := dk_42 (dk_at dksX0_remembers_2 22 rfl rfl)
theorem dX0_remembers_71 : decode cX0_remembers 71 = .ok (.getfield 20, 3) := dk_180 0 20 (dk_at dksX0_remembers_3 0 rfl rfl)
theorem dX0_remembers_74 : decode cX0_remembers 74 = .ok (.invokevirtual 147, 3) := dk_182 0 147 (dk_at dksX0_remembers_3 3 rfl rfl)
theorem dX0_remembers_77 : decode cX0_remembers 77 = .ok (.aload_n 0, 1) := dk_42 (dk_at dksX0_remembers_3 6 rfl rfl)
theorem dX0_remembers_78 : decode cX0_remembers 78 = .ok (.dup, 1) := dk_89 (dk_at dksX0_remembers_3 7 rfl rfl)
theorem dX0_remembers_79 : decode cX0_remembers 79 = .ok (.getfield 144, 3) := dk_180 0 144 (dk_at dksX0_remembers_3 8 rfl rfl)
theorem dX0_remembers_82 : decode cX0_remembers 82 = .ok (.iconst 1, 1) := dk_4 (dk_at dksX0_remembers_3 11 rfl rfl)
theorem dX0_remembers_83 : decode cX0_remembers 83 = .ok (.iadd, 1) := dk_96 (dk_at dksX0_remembers_3 12 rfl rfl)
theorem dX0_remembers_84 : decode cX0_remembers 84 = .ok (.putfield 144, 3) := dk_181 0 144 (dk_at dksX0_remembers_3 13 rfl rfl)
theorem dX0_remembers_87 : decode cX0_remembers 87 = .ok (.return_, 1) := dk_177 (dk_at dksX0_remembers_3 16 rfl rfl)
abbrev cX0_bring : ByteArray := prog_1_method_21_code
def yX0_bring : MethodName := ⟨RX0, "bring", "(I)I"⟩
def dkwX0_bring_1 : List UInt8 := [154, 0, 6, 16, 254, 172, 42, 182, 0, 204, 42, 180, 0, 20, 28, 182, 0, 215, 172]
abbrev dktX0_bring_1 : List UInt8 := dkwX0_bring_1 ++ []
def dkwX0_bring_0 : List UInt8 := [42, 180, 0, 20, 180, 0, 195, 27, 182, 0, 213, 61, 28, 2, 159, 0, 13, 42, 180, 0, 20, 180, 0, 186]
abbrev dktX0_bring_0 : List UInt8 := dkwX0_bring_0 ++ dktX0_bring_1
theorem dksX0_bring_0 : cX0_bring.data.toList.drop 0 = dktX0_bring_0 := by decide +kernel
theorem dksX0_bring_1 : cX0_bring.data.toList.drop 24 = dktX0_bring_1 := dk_seg dksX0_bring_0 24 rfl rfl
theorem dX0_bring_0 : decode cX0_bring 0 = .ok (.aload_n 0, 1) := dk_42 (dk_at dksX0_bring_0 0 rfl rfl)
theorem dX0_bring_1 : decode cX0_bring 1 = .ok (.getfield 20, 3) := dk_180 0 20 (dk_at dksX0_bring_0 1 rfl rfl)
theorem dX0_bring_4 : decode cX0_bring 4 = .ok (.getfield 195, 3) := dk_180 0 195 (dk_at dksX0_bring_0 4 rfl rfl)
theorem dX0_bring_7 : decode cX0_bring 7 = .ok (.iload_n 1, 1) := dk_27 (dk_at dksX0_bring_0 7 rfl rfl)
theorem dX0_bring_8 : decode cX0_bring 8 = .ok (.invokevirtual 213, 3) := dk_182 0 213 (dk_at dksX0_bring_0 8 rfl rfl)
theorem dX0_bring_11 : decode cX0_bring 11 = .ok (.istore_n 2, 1) := dk_61 (dk_at dksX0_bring_0 11 rfl rfl)
theorem dX0_bring_12 : decode cX0_bring 12 = .ok (.iload_n 2, 1) := dk_28 (dk_at dksX0_bring_0 12 rfl rfl)
theorem dX0_bring_13 : decode cX0_bring 13 = .ok (.iconst (-1), 1) := dk_2 (dk_at dksX0_bring_0 13 rfl rfl)
theorem dX0_bring_14 : decode cX0_bring 14 = .ok (.if_icmp .eq 13, 3) := dk_159 0 13 (dk_at dksX0_bring_0 14 rfl rfl)
theorem dX0_bring_17 : decode cX0_bring 17 = .ok (.aload_n 0, 1) := dk_42 (dk_at dksX0_bring_0 17 rfl rfl)
theorem dX0_bring_18 : decode cX0_bring 18 = .ok (.getfield 20, 3) := dk_180 0 20 (dk_at dksX0_bring_0 18 rfl rfl)
theorem dX0_bring_21 : decode cX0_bring 21 = .ok (.getfield 186, 3) := dk_180 0 186 (dk_at dksX0_bring_0 21 rfl rfl)
theorem dX0_bring_24 : decode cX0_bring 24 = .ok (.ifCond .ne 6, 3) := dk_154 0 6 (dk_at dksX0_bring_1 0 rfl rfl)
theorem dX0_bring_27 : decode cX0_bring 27 = .ok (.bipush (-2), 2) := dk_16 254 (dk_at dksX0_bring_1 3 rfl rfl)
theorem dX0_bring_29 : decode cX0_bring 29 = .ok (.ireturn, 1) := dk_172 (dk_at dksX0_bring_1 5 rfl rfl)
theorem dX0_bring_30 : decode cX0_bring 30 = .ok (.aload_n 0, 1) := dk_42 (dk_at dksX0_bring_1 6 rfl rfl)
theorem dX0_bring_31 : decode cX0_bring 31 = .ok (.invokevirtual 204, 3) := dk_182 0 204 (dk_at dksX0_bring_1 7 rfl rfl)
theorem dX0_bring_34 : decode cX0_bring 34 = .ok (.aload_n 0, 1) := dk_42 (dk_at dksX0_bring_1 10 rfl rfl)
theorem dX0_bring_35 : decode cX0_bring 35 = .ok (.getfield 20, 3) := dk_180 0 20 (dk_at dksX0_bring_1 11 rfl rfl)
theorem dX0_bring_38 : decode cX0_bring 38 = .ok (.iload_n 2, 1) := dk_28 (dk_at dksX0_bring_1 14 rfl rfl)
theorem dX0_bring_39 : decode cX0_bring 39 = .ok (.invokevirtual 215, 3) := dk_182 0 215 (dk_at dksX0_bring_1 15 rfl rfl)
theorem dX0_bring_42 : decode cX0_bring 42 = .ok (.ireturn, 1) := dk_172 (dk_at dksX0_bring_1 18 rfl rfl)
abbrev cX0_held : ByteArray := prog_1_method_3_code
def yX0_held : MethodName := ⟨RX0, "held", "(III)I"⟩
def dkwX0_held_0 : List UInt8 := [27, 28, 26, 184, 0, 62, 184, 0, 68, 172]
abbrev dktX0_held_0 : List UInt8 := dkwX0_held_0 ++ []
theorem dksX0_held_0 : cX0_held.data.toList.drop 0 = dktX0_held_0 := by decide +kernel
theorem dX0_held_0 : decode cX0_held 0 = .ok (.iload_n 1, 1) := dk_27 (dk_at dksX0_held_0 0 rfl rfl)
theorem dX0_held_1 : decode cX0_held 1 = .ok (.iload_n 2, 1) := dk_28 (dk_at dksX0_held_0 1 rfl rfl)
theorem dX0_held_2 : decode cX0_held 2 = .ok (.iload_n 0, 1) := dk_26 (dk_at dksX0_held_0 2 rfl rfl)
theorem dX0_held_3 : decode cX0_held 3 = .ok (.invokestatic 62, 3) := dk_184 0 62 (dk_at dksX0_held_0 3 rfl rfl)
theorem dX0_held_6 : decode cX0_held 6 = .ok (.invokestatic 68, 3) := dk_184 0 68 (dk_at dksX0_held_0 6 rfl rfl)
theorem dX0_held_9 : decode cX0_held 9 = .ok (.ireturn, 1) := dk_172 (dk_at dksX0_held_0 9 rfl rfl)
abbrev cX0_rain : ByteArray := prog_1_method_22_code
def yX0_rain : MethodName := ⟨RX0, "rain", "(I)Z"⟩
def dkwX0_rain_1 : List UInt8 := [4, 172]
abbrev dktX0_rain_1 : List UInt8 := dkwX0_rain_1 ++ []
def dkwX0_rain_0 : List UInt8 := [27, 3, 16, 9, 184, 0, 78, 154, 0, 5, 3, 172, 42, 182, 0, 204, 42, 180, 0, 20, 27, 181, 0, 218]
abbrev dktX0_rain_0 : List UInt8 := dkwX0_rain_0 ++ dktX0_rain_1
theorem dksX0_rain_0 : cX0_rain.data.toList.drop 0 = dktX0_rain_0 := by decide +kernel
theorem dksX0_rain_1 : cX0_rain.data.toList.drop 24 = dktX0_rain_1 := dk_seg dksX0_rain_0 24 rfl rfl
theorem dX0_rain_0 : decode cX0_rain 0 = .ok (.iload_n 1, 1) := dk_27 (dk_at dksX0_rain_0 0 rfl rfl)
theorem dX0_rain_1 : decode cX0_rain 1 = .ok (.iconst 0, 1) := dk_3 (dk_at dksX0_rain_0 1 rfl rfl)
theorem dX0_rain_2 : decode cX0_rain 2 = .ok (.bipush 9, 2) := dk_16 9 (dk_at dksX0_rain_0 2 rfl rfl)
theorem dX0_rain_4 : decode cX0_rain 4 = .ok (.invokestatic 78, 3) := dk_184 0 78 (dk_at dksX0_rain_0 4 rfl rfl)
theorem dX0_rain_7 : decode cX0_rain 7 = .ok (.ifCond .ne 5, 3) := dk_154 0 5 (dk_at dksX0_rain_0 7 rfl rfl)
theorem dX0_rain_10 : decode cX0_rain 10 = .ok (.iconst 0, 1) := dk_3 (dk_at dksX0_rain_0 10 rfl rfl)
theorem dX0_rain_11 : decode cX0_rain 11 = .ok (.ireturn, 1) := dk_172 (dk_at dksX0_rain_0 11 rfl rfl)
theorem dX0_rain_12 : decode cX0_rain 12 = .ok (.aload_n 0, 1) := dk_42 (dk_at dksX0_rain_0 12 rfl rfl)
theorem dX0_rain_13 : decode cX0_rain 13 = .ok (.invokevirtual 204, 3) := dk_182 0 204 (dk_at dksX0_rain_0 13 rfl rfl)
theorem dX0_rain_16 : decode cX0_rain 16 = .ok (.aload_n 0, 1) := dk_42 (dk_at dksX0_rain_0 16 rfl rfl)
theorem dX0_rain_17 : decode cX0_rain 17 = .ok (.getfield 20, 3) := dk_180 0 20 (dk_at dksX0_rain_0 17 rfl rfl)
theorem dX0_rain_20 : decode cX0_rain 20 = .ok (.iload_n 1, 1) := dk_27 (dk_at dksX0_rain_0 20 rfl rfl)
theorem dX0_rain_21 : decode cX0_rain 21 = .ok (.putfield 218, 3) := dk_181 0 218 (dk_at dksX0_rain_0 21 rfl rfl)
theorem dX0_rain_24 : decode cX0_rain 24 = .ok (.iconst 1, 1) := dk_4 (dk_at dksX0_rain_1 0 rfl rfl)
theorem dX0_rain_25 : decode cX0_rain 25 = .ok (.ireturn, 1) := dk_172 (dk_at dksX0_rain_1 1 rfl rfl)
abbrev cX0_days : ByteArray := prog_1_method_23_code
def yX0_days : MethodName := ⟨RX0, "days", "(I)I"⟩
def dkwX0_days_2 : List UInt8 := [182, 0, 224, 96, 61, 132, 3, 1, 167, 255, 234, 28, 172]
abbrev dktX0_days_2 : List UInt8 := dkwX0_days_2 ++ []
def dkwX0_days_1 : List UInt8 := [164, 0, 5, 2, 172, 3, 61, 3, 62, 29, 27, 162, 0, 23, 42, 182, 0, 204, 28, 42, 180, 0, 20]
abbrev dktX0_days_1 : List UInt8 := dkwX0_days_1 ++ dktX0_days_2
def dkwX0_days_0 : List UInt8 := [27, 4, 16, 60, 184, 0, 78, 153, 0, 18, 42, 180, 0, 20, 180, 0, 221, 27, 96, 17, 39, 15]
abbrev dktX0_days_0 : List UInt8 := dkwX0_days_0 ++ dktX0_days_1
theorem dksX0_days_0 : cX0_days.data.toList.drop 0 = dktX0_days_0 := by decide +kernel
theorem dksX0_days_1 : cX0_days.data.toList.drop 22 = dktX0_days_1 := dk_seg dksX0_days_0 22 rfl rfl
theorem dksX0_days_2 : cX0_days.data.toList.drop 45 = dktX0_days_2 := dk_seg dksX0_days_1 23 rfl rfl
theorem dX0_days_0 : decode cX0_days 0 = .ok (.iload_n 1, 1) := dk_27 (dk_at dksX0_days_0 0 rfl rfl)
theorem dX0_days_1 : decode cX0_days 1 = .ok (.iconst 1, 1) := dk_4 (dk_at dksX0_days_0 1 rfl rfl)
theorem dX0_days_2 : decode cX0_days 2 = .ok (.bipush 60, 2) := dk_16 60 (dk_at dksX0_days_0 2 rfl rfl)
theorem dX0_days_4 : decode cX0_days 4 = .ok (.invokestatic 78, 3) := dk_184 0 78 (dk_at dksX0_days_0 4 rfl rfl)
theorem dX0_days_7 : decode cX0_days 7 = .ok (.ifCond .eq 18, 3) := dk_153 0 18 (dk_at dksX0_days_0 7 rfl rfl)
theorem dX0_days_10 : decode cX0_days 10 = .ok (.aload_n 0, 1) := dk_42 (dk_at dksX0_days_0 10 rfl rfl)
theorem dX0_days_11 : decode cX0_days 11 = .ok (.getfield 20, 3) := dk_180 0 20 (dk_at dksX0_days_0 11 rfl rfl)
theorem dX0_days_14 : decode cX0_days 14 = .ok (.getfield 221, 3) := dk_180 0 221 (dk_at dksX0_days_0 14 rfl rfl)
theorem dX0_days_17 : decode cX0_days 17 = .ok (.iload_n 1, 1) := dk_27 (dk_at dksX0_days_0 17 rfl rfl)
theorem dX0_days_18 : decode cX0_days 18 = .ok (.iadd, 1) := dk_96 (dk_at dksX0_days_0 18 rfl rfl)
theorem dX0_days_19 : decode cX0_days 19 = .ok (.sipush 9999, 3) := dk_17 39 15 (dk_at dksX0_days_0 19 rfl rfl)
theorem dX0_days_22 : decode cX0_days 22 = .ok (.if_icmp .le 5, 3) := dk_164 0 5 (dk_at dksX0_days_1 0 rfl rfl)
theorem dX0_days_25 : decode cX0_days 25 = .ok (.iconst (-1), 1) := dk_2 (dk_at dksX0_days_1 3 rfl rfl)
theorem dX0_days_26 : decode cX0_days 26 = .ok (.ireturn, 1) := dk_172 (dk_at dksX0_days_1 4 rfl rfl)
theorem dX0_days_27 : decode cX0_days 27 = .ok (.iconst 0, 1) := dk_3 (dk_at dksX0_days_1 5 rfl rfl)
theorem dX0_days_28 : decode cX0_days 28 = .ok (.istore_n 2, 1) := dk_61 (dk_at dksX0_days_1 6 rfl rfl)
theorem dX0_days_29 : decode cX0_days 29 = .ok (.iconst 0, 1) := dk_3 (dk_at dksX0_days_1 7 rfl rfl)
theorem dX0_days_30 : decode cX0_days 30 = .ok (.istore_n 3, 1) := dk_62 (dk_at dksX0_days_1 8 rfl rfl)
theorem dX0_days_31 : decode cX0_days 31 = .ok (.iload_n 3, 1) := dk_29 (dk_at dksX0_days_1 9 rfl rfl)
theorem dX0_days_32 : decode cX0_days 32 = .ok (.iload_n 1, 1) := dk_27 (dk_at dksX0_days_1 10 rfl rfl)
theorem dX0_days_33 : decode cX0_days 33 = .ok (.if_icmp .ge 23, 3) := dk_162 0 23 (dk_at dksX0_days_1 11 rfl rfl)
theorem dX0_days_36 : decode cX0_days 36 = .ok (.aload_n 0, 1) := dk_42 (dk_at dksX0_days_1 14 rfl rfl)
theorem dX0_days_37 : decode cX0_days 37 = .ok (.invokevirtual 204, 3) := dk_182 0 204 (dk_at dksX0_days_1 15 rfl rfl)
theorem dX0_days_40 : decode cX0_days 40 = .ok (.iload_n 2, 1) := dk_28 (dk_at dksX0_days_1 18 rfl rfl)
theorem dX0_days_41 : decode cX0_days 41 = .ok (.aload_n 0, 1) := dk_42 (dk_at dksX0_days_1 19 rfl rfl)
theorem dX0_days_42 : decode cX0_days 42 = .ok (.getfield 20, 3) := dk_180 0 20 (dk_at dksX0_days_1 20 rfl rfl)
theorem dX0_days_45 : decode cX0_days 45 = .ok (.invokevirtual 224, 3) := dk_182 0 224 (dk_at dksX0_days_2 0 rfl rfl)
theorem dX0_days_48 : decode cX0_days 48 = .ok (.iadd, 1) := dk_96 (dk_at dksX0_days_2 3 rfl rfl)
theorem dX0_days_49 : decode cX0_days 49 = .ok (.istore_n 2, 1) := dk_61 (dk_at dksX0_days_2 4 rfl rfl)
theorem dX0_days_50 : decode cX0_days 50 = .ok (.iinc 3 1, 3) := dk_132 3 1 (dk_at dksX0_days_2 5 rfl rfl)
theorem dX0_days_53 : decode cX0_days 53 = .ok (.goto (-22), 3) := dk_167 255 234 (dk_at dksX0_days_2 8 rfl rfl)
theorem dX0_days_56 : decode cX0_days 56 = .ok (.iload_n 2, 1) := dk_28 (dk_at dksX0_days_2 11 rfl rfl)
theorem dX0_days_57 : decode cX0_days 57 = .ok (.ireturn, 1) := dk_172 (dk_at dksX0_days_2 12 rfl rfl)
abbrev cX0_of : ByteArray := prog_1_method_25_code
def yX0_of : MethodName := ⟨RX0, "of", "(II)I"⟩
def dkwX0_of_4 : List UInt8 := [100, 182, 0, 233, 167, 0, 5, 16, 156, 172]
abbrev dktX0_of_4 : List UInt8 := dkwX0_of_4 ++ []
def dkwX0_of_3 : List UInt8 := [180, 0, 195, 27, 182, 0, 230, 172, 42, 28, 16, 10, 100, 182, 0, 170, 153, 0, 15, 42, 27, 28, 16, 10]
abbrev dktX0_of_3 : List UInt8 := dkwX0_of_3 ++ dktX0_of_4
def dkwX0_of_2 : List UInt8 := [45, 180, 0, 177, 172, 45, 180, 0, 180, 172, 45, 180, 0, 183, 172, 45, 180, 0, 227, 172, 42, 180, 0, 20]
abbrev dktX0_of_2 : List UInt8 := dkwX0_of_2 ++ dktX0_of_3
def dkwX0_of_1 : List UInt8 := [170, 0, 0, 0, 0, 66, 0, 0, 0, 0, 0, 0, 0, 4, 0, 0, 0, 34, 0, 0, 0, 39, 0, 0, 0, 44, 0, 0, 0, 49, 0, 0, 0, 54]
abbrev dktX0_of_1 : List UInt8 := dkwX0_of_1 ++ dktX0_of_2
def dkwX0_of_0 : List UInt8 := [42, 27, 182, 0, 170, 154, 0, 6, 16, 156, 172, 42, 27, 182, 0, 161, 78, 28]
abbrev dktX0_of_0 : List UInt8 := dkwX0_of_0 ++ dktX0_of_1
theorem dksX0_of_0 : cX0_of.data.toList.drop 0 = dktX0_of_0 := by decide +kernel
theorem dksX0_of_1 : cX0_of.data.toList.drop 18 = dktX0_of_1 := dk_seg dksX0_of_0 18 rfl rfl
theorem dksX0_of_2 : cX0_of.data.toList.drop 52 = dktX0_of_2 := dk_seg dksX0_of_1 34 rfl rfl
theorem dksX0_of_3 : cX0_of.data.toList.drop 76 = dktX0_of_3 := dk_seg dksX0_of_2 24 rfl rfl
theorem dksX0_of_4 : cX0_of.data.toList.drop 100 = dktX0_of_4 := dk_seg dksX0_of_3 24 rfl rfl
theorem dX0_of_0 : decode cX0_of 0 = .ok (.aload_n 0, 1) := dk_42 (dk_at dksX0_of_0 0 rfl rfl)
theorem dX0_of_1 : decode cX0_of 1 = .ok (.iload_n 1, 1) := dk_27 (dk_at dksX0_of_0 1 rfl rfl)
theorem dX0_of_2 : decode cX0_of 2 = .ok (.invokevirtual 170, 3) := dk_182 0 170 (dk_at dksX0_of_0 2 rfl rfl)
theorem dX0_of_5 : decode cX0_of 5 = .ok (.ifCond .ne 6, 3) := dk_154 0 6 (dk_at dksX0_of_0 5 rfl rfl)
theorem dX0_of_8 : decode cX0_of 8 = .ok (.bipush (-100), 2) := dk_16 156 (dk_at dksX0_of_0 8 rfl rfl)
theorem dX0_of_10 : decode cX0_of 10 = .ok (.ireturn, 1) := dk_172 (dk_at dksX0_of_0 10 rfl rfl)
theorem dX0_of_11 : decode cX0_of 11 = .ok (.aload_n 0, 1) := dk_42 (dk_at dksX0_of_0 11 rfl rfl)
theorem dX0_of_12 : decode cX0_of 12 = .ok (.iload_n 1, 1) := dk_27 (dk_at dksX0_of_0 12 rfl rfl)
theorem dX0_of_13 : decode cX0_of 13 = .ok (.invokevirtual 161, 3) := dk_182 0 161 (dk_at dksX0_of_0 13 rfl rfl)
theorem dX0_of_16 : decode cX0_of 16 = .ok (.astore_n 3, 1) := dk_78 (dk_at dksX0_of_0 16 rfl rfl)
theorem dX0_of_17 : decode cX0_of 17 = .ok (.iload_n 2, 1) := dk_28 (dk_at dksX0_of_0 17 rfl rfl)
theorem dX0_of_18 : decode cX0_of 18 = .ok (.tableswitch 66 0 4 #[34, 39, 44, 49, 54], 34) := by decide +kernel
theorem dX0_of_52 : decode cX0_of 52 = .ok (.aload_n 3, 1) := dk_45 (dk_at dksX0_of_2 0 rfl rfl)
theorem dX0_of_53 : decode cX0_of 53 = .ok (.getfield 177, 3) := dk_180 0 177 (dk_at dksX0_of_2 1 rfl rfl)
theorem dX0_of_56 : decode cX0_of 56 = .ok (.ireturn, 1) := dk_172 (dk_at dksX0_of_2 4 rfl rfl)
theorem dX0_of_57 : decode cX0_of 57 = .ok (.aload_n 3, 1) := dk_45 (dk_at dksX0_of_2 5 rfl rfl)
theorem dX0_of_58 : decode cX0_of 58 = .ok (.getfield 180, 3) := dk_180 0 180 (dk_at dksX0_of_2 6 rfl rfl)
theorem dX0_of_61 : decode cX0_of 61 = .ok (.ireturn, 1) := dk_172 (dk_at dksX0_of_2 9 rfl rfl)
theorem dX0_of_62 : decode cX0_of 62 = .ok (.aload_n 3, 1) := dk_45 (dk_at dksX0_of_2 10 rfl rfl)
theorem dX0_of_63 : decode cX0_of 63 = .ok (.getfield 183, 3) := dk_180 0 183 (dk_at dksX0_of_2 11 rfl rfl)
theorem dX0_of_66 : decode cX0_of 66 = .ok (.ireturn, 1) := dk_172 (dk_at dksX0_of_2 14 rfl rfl)
theorem dX0_of_67 : decode cX0_of 67 = .ok (.aload_n 3, 1) := dk_45 (dk_at dksX0_of_2 15 rfl rfl)
theorem dX0_of_68 : decode cX0_of 68 = .ok (.getfield 227, 3) := dk_180 0 227 (dk_at dksX0_of_2 16 rfl rfl)
theorem dX0_of_71 : decode cX0_of 71 = .ok (.ireturn, 1) := dk_172 (dk_at dksX0_of_2 19 rfl rfl)
theorem dX0_of_72 : decode cX0_of 72 = .ok (.aload_n 0, 1) := dk_42 (dk_at dksX0_of_2 20 rfl rfl)
theorem dX0_of_73 : decode cX0_of 73 = .ok (.getfield 20, 3) := dk_180 0 20 (dk_at dksX0_of_2 21 rfl rfl)
theorem dX0_of_76 : decode cX0_of 76 = .ok (.getfield 195, 3) := dk_180 0 195 (dk_at dksX0_of_3 0 rfl rfl)
theorem dX0_of_79 : decode cX0_of 79 = .ok (.iload_n 1, 1) := dk_27 (dk_at dksX0_of_3 3 rfl rfl)
theorem dX0_of_80 : decode cX0_of 80 = .ok (.invokevirtual 230, 3) := dk_182 0 230 (dk_at dksX0_of_3 4 rfl rfl)
theorem dX0_of_83 : decode cX0_of 83 = .ok (.ireturn, 1) := dk_172 (dk_at dksX0_of_3 7 rfl rfl)
theorem dX0_of_84 : decode cX0_of 84 = .ok (.aload_n 0, 1) := dk_42 (dk_at dksX0_of_3 8 rfl rfl)
theorem dX0_of_85 : decode cX0_of 85 = .ok (.iload_n 2, 1) := dk_28 (dk_at dksX0_of_3 9 rfl rfl)
theorem dX0_of_86 : decode cX0_of 86 = .ok (.bipush 10, 2) := dk_16 10 (dk_at dksX0_of_3 10 rfl rfl)
theorem dX0_of_88 : decode cX0_of 88 = .ok (.isub, 1) := dk_100 (dk_at dksX0_of_3 12 rfl rfl)
theorem dX0_of_89 : decode cX0_of 89 = .ok (.invokevirtual 170, 3) := dk_182 0 170 (dk_at dksX0_of_3 13 rfl rfl)
theorem dX0_of_92 : decode cX0_of 92 = .ok (.ifCond .eq 15, 3) := dk_153 0 15 (dk_at dksX0_of_3 16 rfl rfl)
theorem dX0_of_95 : decode cX0_of 95 = .ok (.aload_n 0, 1) := dk_42 (dk_at dksX0_of_3 19 rfl rfl)
theorem dX0_of_96 : decode cX0_of 96 = .ok (.iload_n 1, 1) := dk_27 (dk_at dksX0_of_3 20 rfl rfl)
theorem dX0_of_97 : decode cX0_of 97 = .ok (.iload_n 2, 1) := dk_28 (dk_at dksX0_of_3 21 rfl rfl)
theorem dX0_of_98 : decode cX0_of 98 = .ok (.bipush 10, 2) := dk_16 10 (dk_at dksX0_of_3 22 rfl rfl)
theorem dX0_of_100 : decode cX0_of 100 = .ok (.isub, 1) := dk_100 (dk_at dksX0_of_4 0 rfl rfl)
theorem dX0_of_101 : decode cX0_of 101 = .ok (.invokevirtual 233, 3) := dk_182 0 233 (dk_at dksX0_of_4 1 rfl rfl)
theorem dX0_of_104 : decode cX0_of 104 = .ok (.goto 5, 3) := dk_167 0 5 (dk_at dksX0_of_4 4 rfl rfl)
theorem dX0_of_107 : decode cX0_of 107 = .ok (.bipush (-100), 2) := dk_16 156 (dk_at dksX0_of_4 7 rfl rfl)
theorem dX0_of_109 : decode cX0_of 109 = .ok (.ireturn, 1) := dk_172 (dk_at dksX0_of_4 9 rfl rfl)
abbrev cX0_street : ByteArray := prog_1_method_24_code
def yX0_street : MethodName := ⟨RX0, "street", "(II)I"⟩
def dkwX0_street_0 : List UInt8 := [42, 180, 0, 20, 180, 0, 124, 16, 12, 27, 104, 28, 96, 46, 172]
abbrev dktX0_street_0 : List UInt8 := dkwX0_street_0 ++ []
theorem dksX0_street_0 : cX0_street.data.toList.drop 0 = dktX0_street_0 := by decide +kernel
theorem dX0_street_0 : decode cX0_street 0 = .ok (.aload_n 0, 1) := dk_42 (dk_at dksX0_street_0 0 rfl rfl)
theorem dX0_street_1 : decode cX0_street 1 = .ok (.getfield 20, 3) := dk_180 0 20 (dk_at dksX0_street_0 1 rfl rfl)
theorem dX0_street_4 : decode cX0_street 4 = .ok (.getfield 124, 3) := dk_180 0 124 (dk_at dksX0_street_0 4 rfl rfl)
theorem dX0_street_7 : decode cX0_street 7 = .ok (.bipush 12, 2) := dk_16 12 (dk_at dksX0_street_0 7 rfl rfl)
theorem dX0_street_9 : decode cX0_street 9 = .ok (.iload_n 1, 1) := dk_27 (dk_at dksX0_street_0 9 rfl rfl)
theorem dX0_street_10 : decode cX0_street 10 = .ok (.imul, 1) := dk_104 (dk_at dksX0_street_0 10 rfl rfl)
theorem dX0_street_11 : decode cX0_street 11 = .ok (.iload_n 2, 1) := dk_28 (dk_at dksX0_street_0 11 rfl rfl)
theorem dX0_street_12 : decode cX0_street 12 = .ok (.iadd, 1) := dk_96 (dk_at dksX0_street_0 12 rfl rfl)
theorem dX0_street_13 : decode cX0_street 13 = .ok (.iaload, 1) := dk_46 (dk_at dksX0_street_0 13 rfl rfl)
theorem dX0_street_14 : decode cX0_street 14 = .ok (.ireturn, 1) := dk_172 (dk_at dksX0_street_0 14 rfl rfl)
abbrev cX0_letter : ByteArray := prog_1_method_26_code
def yX0_letter : MethodName := ⟨RX0, "letter", "(II)I"⟩
def dkwX0_letter_5 : List UInt8 := [182, 1, 4, 172, 2, 172]
abbrev dktX0_letter_5 : List UInt8 := dkwX0_letter_5 ++ []
def dkwX0_letter_4 : List UInt8 := [172, 42, 180, 0, 20, 45, 182, 0, 253, 172, 42, 180, 0, 20, 45, 182, 1, 1, 172, 42, 180, 0, 20, 45]
abbrev dktX0_letter_4 : List UInt8 := dkwX0_letter_4 ++ dktX0_letter_5
def dkwX0_letter_3 : List UInt8 := [45, 180, 0, 239, 172, 45, 180, 0, 244, 172, 45, 180, 0, 246, 172, 45, 180, 0, 247, 172, 45, 180, 0, 250]
abbrev dktX0_letter_3 : List UInt8 := dkwX0_letter_3 ++ dktX0_letter_4
def dkwX0_letter_2 : List UInt8 := [170, 0, 0, 0, 0, 0, 0, 100, 0, 0, 0, 0, 0, 0, 0, 7, 0, 0, 0, 48, 0, 0, 0, 53, 0, 0, 0, 58, 0, 0, 0, 63, 0, 0, 0, 68, 0, 0, 0, 73, 0, 0, 0, 82, 0, 0, 0, 91]
abbrev dktX0_letter_2 : List UInt8 := dkwX0_letter_2 ++ dktX0_letter_3
def dkwX0_letter_1 : List UInt8 := [180, 0, 20, 180, 0, 195, 180, 0, 235, 27, 50, 78, 28]
abbrev dktX0_letter_1 : List UInt8 := dkwX0_letter_1 ++ dktX0_letter_2
def dkwX0_letter_0 : List UInt8 := [27, 3, 42, 180, 0, 20, 180, 0, 195, 180, 0, 199, 4, 100, 184, 0, 78, 154, 0, 5, 2, 172, 42]
abbrev dktX0_letter_0 : List UInt8 := dkwX0_letter_0 ++ dktX0_letter_1
theorem dksX0_letter_0 : cX0_letter.data.toList.drop 0 = dktX0_letter_0 := by decide +kernel
theorem dksX0_letter_1 : cX0_letter.data.toList.drop 23 = dktX0_letter_1 := dk_seg dksX0_letter_0 23 rfl rfl
theorem dksX0_letter_2 : cX0_letter.data.toList.drop 36 = dktX0_letter_2 := dk_seg dksX0_letter_1 13 rfl rfl
theorem dksX0_letter_3 : cX0_letter.data.toList.drop 84 = dktX0_letter_3 := dk_seg dksX0_letter_2 48 rfl rfl
theorem dksX0_letter_4 : cX0_letter.data.toList.drop 108 = dktX0_letter_4 := dk_seg dksX0_letter_3 24 rfl rfl
theorem dksX0_letter_5 : cX0_letter.data.toList.drop 132 = dktX0_letter_5 := dk_seg dksX0_letter_4 24 rfl rfl
theorem dX0_letter_0 : decode cX0_letter 0 = .ok (.iload_n 1, 1) := dk_27 (dk_at dksX0_letter_0 0 rfl rfl)
theorem dX0_letter_1 : decode cX0_letter 1 = .ok (.iconst 0, 1) := dk_3 (dk_at dksX0_letter_0 1 rfl rfl)
theorem dX0_letter_2 : decode cX0_letter 2 = .ok (.aload_n 0, 1) := dk_42 (dk_at dksX0_letter_0 2 rfl rfl)
theorem dX0_letter_3 : decode cX0_letter 3 = .ok (.getfield 20, 3) := dk_180 0 20 (dk_at dksX0_letter_0 3 rfl rfl)
theorem dX0_letter_6 : decode cX0_letter 6 = .ok (.getfield 195, 3) := dk_180 0 195 (dk_at dksX0_letter_0 6 rfl rfl)
theorem dX0_letter_9 : decode cX0_letter 9 = .ok (.getfield 199, 3) := dk_180 0 199 (dk_at dksX0_letter_0 9 rfl rfl)
theorem dX0_letter_12 : decode cX0_letter 12 = .ok (.iconst 1, 1) := dk_4 (dk_at dksX0_letter_0 12 rfl rfl)
theorem dX0_letter_13 : decode cX0_letter 13 = .ok (.isub, 1) := dk_100 (dk_at dksX0_letter_0 13 rfl rfl)
theorem dX0_letter_14 : decode cX0_letter 14 = .ok (.invokestatic 78, 3) := dk_184 0 78 (dk_at dksX0_letter_0 14 rfl rfl)
theorem dX0_letter_17 : decode cX0_letter 17 = .ok (.ifCond .ne 5, 3) := dk_154 0 5 (dk_at dksX0_letter_0 17 rfl rfl)
theorem dX0_letter_20 : decode cX0_letter 20 = .ok (.iconst (-1), 1) := dk_2 (dk_at dksX0_letter_0 20 rfl rfl)
theorem dX0_letter_21 : decode cX0_letter 21 = .ok (.ireturn, 1) := dk_172 (dk_at dksX0_letter_0 21 rfl rfl)
theorem dX0_letter_22 : decode cX0_letter 22 = .ok (.aload_n 0, 1) := dk_42 (dk_at dksX0_letter_0 22 rfl rfl)
theorem dX0_letter_23 : decode cX0_letter 23 = .ok (.getfield 20, 3) := dk_180 0 20 (dk_at dksX0_letter_1 0 rfl rfl)
theorem dX0_letter_26 : decode cX0_letter 26 = .ok (.getfield 195, 3) := dk_180 0 195 (dk_at dksX0_letter_1 3 rfl rfl)
theorem dX0_letter_29 : decode cX0_letter 29 = .ok (.getfield 235, 3) := dk_180 0 235 (dk_at dksX0_letter_1 6 rfl rfl)
theorem dX0_letter_32 : decode cX0_letter 32 = .ok (.iload_n 1, 1) := dk_27 (dk_at dksX0_letter_1 9 rfl rfl)
theorem dX0_letter_33 : decode cX0_letter 33 = .ok (.aaload, 1) := dk_50 (dk_at dksX0_letter_1 10 rfl rfl)
theorem dX0_letter_34 : decode cX0_letter 34 = .ok (.astore_n 3, 1) := dk_78 (dk_at dksX0_letter_1 11 rfl rfl)
theorem dX0_letter_35 : decode cX0_letter 35 = .ok (.iload_n 2, 1) := dk_28 (dk_at dksX0_letter_1 12 rfl rfl)
theorem dX0_letter_36 : decode cX0_letter 36 = .ok (.tableswitch 100 0 7 #[48, 53, 58, 63, 68, 73, 82, 91], 48) := by decide +kernel
theorem dX0_letter_84 : decode cX0_letter 84 = .ok (.aload_n 3, 1) := dk_45 (dk_at dksX0_letter_3 0 rfl rfl)
theorem dX0_letter_85 : decode cX0_letter 85 = .ok (.getfield 239, 3) := dk_180 0 239 (dk_at dksX0_letter_3 1 rfl rfl)
theorem dX0_letter_88 : decode cX0_letter 88 = .ok (.ireturn, 1) := dk_172 (dk_at dksX0_letter_3 4 rfl rfl)
theorem dX0_letter_89 : decode cX0_letter 89 = .ok (.aload_n 3, 1) := dk_45 (dk_at dksX0_letter_3 5 rfl rfl)
theorem dX0_letter_90 : decode cX0_letter 90 = .ok (.getfield 244, 3) := dk_180 0 244 (dk_at dksX0_letter_3 6 rfl rfl)
theorem dX0_letter_93 : decode cX0_letter 93 = .ok (.ireturn, 1) := dk_172 (dk_at dksX0_letter_3 9 rfl rfl)
theorem dX0_letter_94 : decode cX0_letter 94 = .ok (.aload_n 3, 1) := dk_45 (dk_at dksX0_letter_3 10 rfl rfl)
theorem dX0_letter_95 : decode cX0_letter 95 = .ok (.getfield 246, 3) := dk_180 0 246 (dk_at dksX0_letter_3 11 rfl rfl)
theorem dX0_letter_98 : decode cX0_letter 98 = .ok (.ireturn, 1) := dk_172 (dk_at dksX0_letter_3 14 rfl rfl)
theorem dX0_letter_99 : decode cX0_letter 99 = .ok (.aload_n 3, 1) := dk_45 (dk_at dksX0_letter_3 15 rfl rfl)
theorem dX0_letter_100 : decode cX0_letter 100 = .ok (.getfield 247, 3) := dk_180 0 247 (dk_at dksX0_letter_3 16 rfl rfl)
theorem dX0_letter_103 : decode cX0_letter 103 = .ok (.ireturn, 1) := dk_172 (dk_at dksX0_letter_3 19 rfl rfl)
theorem dX0_letter_104 : decode cX0_letter 104 = .ok (.aload_n 3, 1) := dk_45 (dk_at dksX0_letter_3 20 rfl rfl)
theorem dX0_letter_105 : decode cX0_letter 105 = .ok (.getfield 250, 3) := dk_180 0 250 (dk_at dksX0_letter_3 21 rfl rfl)
theorem dX0_letter_108 : decode cX0_letter 108 = .ok (.ireturn, 1) := dk_172 (dk_at dksX0_letter_4 0 rfl rfl)
theorem dX0_letter_109 : decode cX0_letter 109 = .ok (.aload_n 0, 1) := dk_42 (dk_at dksX0_letter_4 1 rfl rfl)
theorem dX0_letter_110 : decode cX0_letter 110 = .ok (.getfield 20, 3) := dk_180 0 20 (dk_at dksX0_letter_4 2 rfl rfl)
theorem dX0_letter_113 : decode cX0_letter 113 = .ok (.aload_n 3, 1) := dk_45 (dk_at dksX0_letter_4 5 rfl rfl)
theorem dX0_letter_114 : decode cX0_letter 114 = .ok (.invokevirtual 253, 3) := dk_182 0 253 (dk_at dksX0_letter_4 6 rfl rfl)
theorem dX0_letter_117 : decode cX0_letter 117 = .ok (.ireturn, 1) := dk_172 (dk_at dksX0_letter_4 9 rfl rfl)
theorem dX0_letter_118 : decode cX0_letter 118 = .ok (.aload_n 0, 1) := dk_42 (dk_at dksX0_letter_4 10 rfl rfl)
theorem dX0_letter_119 : decode cX0_letter 119 = .ok (.getfield 20, 3) := dk_180 0 20 (dk_at dksX0_letter_4 11 rfl rfl)
theorem dX0_letter_122 : decode cX0_letter 122 = .ok (.aload_n 3, 1) := dk_45 (dk_at dksX0_letter_4 14 rfl rfl)
theorem dX0_letter_123 : decode cX0_letter 123 = .ok (.invokevirtual 257, 3) := dk_182 1 1 (dk_at dksX0_letter_4 15 rfl rfl)
theorem dX0_letter_126 : decode cX0_letter 126 = .ok (.ireturn, 1) := dk_172 (dk_at dksX0_letter_4 18 rfl rfl)
theorem dX0_letter_127 : decode cX0_letter 127 = .ok (.aload_n 0, 1) := dk_42 (dk_at dksX0_letter_4 19 rfl rfl)
theorem dX0_letter_128 : decode cX0_letter 128 = .ok (.getfield 20, 3) := dk_180 0 20 (dk_at dksX0_letter_4 20 rfl rfl)
theorem dX0_letter_131 : decode cX0_letter 131 = .ok (.aload_n 3, 1) := dk_45 (dk_at dksX0_letter_4 23 rfl rfl)
theorem dX0_letter_132 : decode cX0_letter 132 = .ok (.invokevirtual 260, 3) := dk_182 1 4 (dk_at dksX0_letter_5 0 rfl rfl)
theorem dX0_letter_135 : decode cX0_letter 135 = .ok (.ireturn, 1) := dk_172 (dk_at dksX0_letter_5 3 rfl rfl)
theorem dX0_letter_136 : decode cX0_letter 136 = .ok (.iconst (-1), 1) := dk_2 (dk_at dksX0_letter_5 4 rfl rfl)
theorem dX0_letter_137 : decode cX0_letter 137 = .ok (.ireturn, 1) := dk_172 (dk_at dksX0_letter_5 5 rfl rfl)
abbrev cX0_given : ByteArray := prog_1_method_27_code
def yX0_given : MethodName := ⟨RX0, "given", "(I)I"⟩
def dkwX0_given_0 : List UInt8 := [27, 184, 0, 192, 153, 0, 15, 42, 180, 0, 20, 180, 1, 7, 27, 46, 167, 0, 4, 2, 172]
abbrev dktX0_given_0 : List UInt8 := dkwX0_given_0 ++ []
theorem dksX0_given_0 : cX0_given.data.toList.drop 0 = dktX0_given_0 := by decide +kernel
theorem dX0_given_0 : decode cX0_given 0 = .ok (.iload_n 1, 1) := dk_27 (dk_at dksX0_given_0 0 rfl rfl)
theorem dX0_given_1 : decode cX0_given 1 = .ok (.invokestatic 192, 3) := dk_184 0 192 (dk_at dksX0_given_0 1 rfl rfl)
theorem dX0_given_4 : decode cX0_given 4 = .ok (.ifCond .eq 15, 3) := dk_153 0 15 (dk_at dksX0_given_0 4 rfl rfl)
theorem dX0_given_7 : decode cX0_given 7 = .ok (.aload_n 0, 1) := dk_42 (dk_at dksX0_given_0 7 rfl rfl)
theorem dX0_given_8 : decode cX0_given 8 = .ok (.getfield 20, 3) := dk_180 0 20 (dk_at dksX0_given_0 8 rfl rfl)
theorem dX0_given_11 : decode cX0_given 11 = .ok (.getfield 263, 3) := dk_180 1 7 (dk_at dksX0_given_0 11 rfl rfl)
theorem dX0_given_14 : decode cX0_given 14 = .ok (.iload_n 1, 1) := dk_27 (dk_at dksX0_given_0 14 rfl rfl)
theorem dX0_given_15 : decode cX0_given 15 = .ok (.iaload, 1) := dk_46 (dk_at dksX0_given_0 15 rfl rfl)
theorem dX0_given_16 : decode cX0_given 16 = .ok (.goto 4, 3) := dk_167 0 4 (dk_at dksX0_given_0 16 rfl rfl)
theorem dX0_given_19 : decode cX0_given 19 = .ok (.iconst (-1), 1) := dk_2 (dk_at dksX0_given_0 19 rfl rfl)
theorem dX0_given_20 : decode cX0_given 20 = .ok (.ireturn, 1) := dk_172 (dk_at dksX0_given_0 20 rfl rfl)
abbrev cX0_book : ByteArray := prog_1_method_28_code
def yX0_book : MethodName := ⟨RX0, "book", "(II)I"⟩
def dkwX0_book_1 : List UInt8 := [153, 0, 17, 42, 180, 0, 20, 180, 1, 13, 27, 50, 28, 46, 167, 0, 5, 16, 254, 172]
abbrev dktX0_book_1 : List UInt8 := dkwX0_book_1 ++ []
def dkwX0_book_0 : List UInt8 := [27, 3, 42, 180, 0, 20, 180, 1, 10, 4, 100, 184, 0, 78, 153, 0, 26, 28, 3, 6, 184, 0, 78]
abbrev dktX0_book_0 : List UInt8 := dkwX0_book_0 ++ dktX0_book_1
theorem dksX0_book_0 : cX0_book.data.toList.drop 0 = dktX0_book_0 := by decide +kernel
theorem dksX0_book_1 : cX0_book.data.toList.drop 23 = dktX0_book_1 := dk_seg dksX0_book_0 23 rfl rfl
theorem dX0_book_0 : decode cX0_book 0 = .ok (.iload_n 1, 1) := dk_27 (dk_at dksX0_book_0 0 rfl rfl)
theorem dX0_book_1 : decode cX0_book 1 = .ok (.iconst 0, 1) := dk_3 (dk_at dksX0_book_0 1 rfl rfl)
theorem dX0_book_2 : decode cX0_book 2 = .ok (.aload_n 0, 1) := dk_42 (dk_at dksX0_book_0 2 rfl rfl)
theorem dX0_book_3 : decode cX0_book 3 = .ok (.getfield 20, 3) := dk_180 0 20 (dk_at dksX0_book_0 3 rfl rfl)
theorem dX0_book_6 : decode cX0_book 6 = .ok (.getfield 266, 3) := dk_180 1 10 (dk_at dksX0_book_0 6 rfl rfl)
theorem dX0_book_9 : decode cX0_book 9 = .ok (.iconst 1, 1) := dk_4 (dk_at dksX0_book_0 9 rfl rfl)
theorem dX0_book_10 : decode cX0_book 10 = .ok (.isub, 1) := dk_100 (dk_at dksX0_book_0 10 rfl rfl)
theorem dX0_book_11 : decode cX0_book 11 = .ok (.invokestatic 78, 3) := dk_184 0 78 (dk_at dksX0_book_0 11 rfl rfl)
theorem dX0_book_14 : decode cX0_book 14 = .ok (.ifCond .eq 26, 3) := dk_153 0 26 (dk_at dksX0_book_0 14 rfl rfl)
theorem dX0_book_17 : decode cX0_book 17 = .ok (.iload_n 2, 1) := dk_28 (dk_at dksX0_book_0 17 rfl rfl)
theorem dX0_book_18 : decode cX0_book 18 = .ok (.iconst 0, 1) := dk_3 (dk_at dksX0_book_0 18 rfl rfl)
theorem dX0_book_19 : decode cX0_book 19 = .ok (.iconst 3, 1) := dk_6 (dk_at dksX0_book_0 19 rfl rfl)
theorem dX0_book_20 : decode cX0_book 20 = .ok (.invokestatic 78, 3) := dk_184 0 78 (dk_at dksX0_book_0 20 rfl rfl)
theorem dX0_book_23 : decode cX0_book 23 = .ok (.ifCond .eq 17, 3) := dk_153 0 17 (dk_at dksX0_book_1 0 rfl rfl)
theorem dX0_book_26 : decode cX0_book 26 = .ok (.aload_n 0, 1) := dk_42 (dk_at dksX0_book_1 3 rfl rfl)
theorem dX0_book_27 : decode cX0_book 27 = .ok (.getfield 20, 3) := dk_180 0 20 (dk_at dksX0_book_1 4 rfl rfl)
theorem dX0_book_30 : decode cX0_book 30 = .ok (.getfield 269, 3) := dk_180 1 13 (dk_at dksX0_book_1 7 rfl rfl)
theorem dX0_book_33 : decode cX0_book 33 = .ok (.iload_n 1, 1) := dk_27 (dk_at dksX0_book_1 10 rfl rfl)
theorem dX0_book_34 : decode cX0_book 34 = .ok (.aaload, 1) := dk_50 (dk_at dksX0_book_1 11 rfl rfl)
theorem dX0_book_35 : decode cX0_book 35 = .ok (.iload_n 2, 1) := dk_28 (dk_at dksX0_book_1 12 rfl rfl)
theorem dX0_book_36 : decode cX0_book 36 = .ok (.iaload, 1) := dk_46 (dk_at dksX0_book_1 13 rfl rfl)
theorem dX0_book_37 : decode cX0_book 37 = .ok (.goto 5, 3) := dk_167 0 5 (dk_at dksX0_book_1 14 rfl rfl)
theorem dX0_book_40 : decode cX0_book 40 = .ok (.bipush (-2), 2) := dk_16 254 (dk_at dksX0_book_1 17 rfl rfl)
theorem dX0_book_42 : decode cX0_book 42 = .ok (.ireturn, 1) := dk_172 (dk_at dksX0_book_1 19 rfl rfl)
abbrev cX0_goes : ByteArray := prog_1_method_29_code
def yX0_goes : MethodName := ⟨RX0, "goes", "(II)I"⟩
def dkwX0_goes_4 : List UInt8 := [180, 0, 195, 180, 0, 199, 167, 0, 10, 42, 180, 0, 27, 180, 1, 19, 172]
abbrev dktX0_goes_4 : List UInt8 := dkwX0_goes_4 ++ []
def dkwX0_goes_3 : List UInt8 := [160, 0, 13, 42, 180, 0, 27, 180, 0, 189, 167, 0, 28, 28, 5, 160, 0, 16, 42, 180, 0, 27]
abbrev dktX0_goes_3 : List UInt8 := dkwX0_goes_3 ++ dktX0_goes_4
def dkwX0_goes_2 : List UInt8 := [87, 132, 3, 1, 167, 255, 240, 28, 154, 0, 13, 42, 180, 0, 27, 180, 0, 186, 167, 0, 43, 28, 4]
abbrev dktX0_goes_2 : List UInt8 := dkwX0_goes_2 ++ dktX0_goes_3
def dkwX0_goes_1 : List UInt8 := [180, 0, 27, 42, 180, 0, 20, 182, 1, 16, 3, 62, 29, 27, 162, 0, 17, 42, 180, 0, 27, 182, 0, 224]
abbrev dktX0_goes_1 : List UInt8 := dkwX0_goes_1 ++ dktX0_goes_2
def dkwX0_goes_0 : List UInt8 := [27, 4, 16, 60, 184, 0, 78, 153, 0, 12, 28, 3, 6, 184, 0, 78, 154, 0, 5, 2, 172, 42]
abbrev dktX0_goes_0 : List UInt8 := dkwX0_goes_0 ++ dktX0_goes_1
theorem dksX0_goes_0 : cX0_goes.data.toList.drop 0 = dktX0_goes_0 := by decide +kernel
theorem dksX0_goes_1 : cX0_goes.data.toList.drop 22 = dktX0_goes_1 := dk_seg dksX0_goes_0 22 rfl rfl
theorem dksX0_goes_2 : cX0_goes.data.toList.drop 46 = dktX0_goes_2 := dk_seg dksX0_goes_1 24 rfl rfl
theorem dksX0_goes_3 : cX0_goes.data.toList.drop 69 = dktX0_goes_3 := dk_seg dksX0_goes_2 23 rfl rfl
theorem dksX0_goes_4 : cX0_goes.data.toList.drop 91 = dktX0_goes_4 := dk_seg dksX0_goes_3 22 rfl rfl
theorem dX0_goes_0 : decode cX0_goes 0 = .ok (.iload_n 1, 1) := dk_27 (dk_at dksX0_goes_0 0 rfl rfl)
theorem dX0_goes_1 : decode cX0_goes 1 = .ok (.iconst 1, 1) := dk_4 (dk_at dksX0_goes_0 1 rfl rfl)
theorem dX0_goes_2 : decode cX0_goes 2 = .ok (.bipush 60, 2) := dk_16 60 (dk_at dksX0_goes_0 2 rfl rfl)
theorem dX0_goes_4 : decode cX0_goes 4 = .ok (.invokestatic 78, 3) := dk_184 0 78 (dk_at dksX0_goes_0 4 rfl rfl)
theorem dX0_goes_7 : decode cX0_goes 7 = .ok (.ifCond .eq 12, 3) := dk_153 0 12 (dk_at dksX0_goes_0 7 rfl rfl)
theorem dX0_goes_10 : decode cX0_goes 10 = .ok (.iload_n 2, 1) := dk_28 (dk_at dksX0_goes_0 10 rfl rfl)
theorem dX0_goes_11 : decode cX0_goes 11 = .ok (.iconst 0, 1) := dk_3 (dk_at dksX0_goes_0 11 rfl rfl)
theorem dX0_goes_12 : decode cX0_goes 12 = .ok (.iconst 3, 1) := dk_6 (dk_at dksX0_goes_0 12 rfl rfl)
theorem dX0_goes_13 : decode cX0_goes 13 = .ok (.invokestatic 78, 3) := dk_184 0 78 (dk_at dksX0_goes_0 13 rfl rfl)
theorem dX0_goes_16 : decode cX0_goes 16 = .ok (.ifCond .ne 5, 3) := dk_154 0 5 (dk_at dksX0_goes_0 16 rfl rfl)
theorem dX0_goes_19 : decode cX0_goes 19 = .ok (.iconst (-1), 1) := dk_2 (dk_at dksX0_goes_0 19 rfl rfl)
theorem dX0_goes_20 : decode cX0_goes 20 = .ok (.ireturn, 1) := dk_172 (dk_at dksX0_goes_0 20 rfl rfl)
theorem dX0_goes_21 : decode cX0_goes 21 = .ok (.aload_n 0, 1) := dk_42 (dk_at dksX0_goes_0 21 rfl rfl)
theorem dX0_goes_22 : decode cX0_goes 22 = .ok (.getfield 27, 3) := dk_180 0 27 (dk_at dksX0_goes_1 0 rfl rfl)
theorem dX0_goes_25 : decode cX0_goes 25 = .ok (.aload_n 0, 1) := dk_42 (dk_at dksX0_goes_1 3 rfl rfl)
theorem dX0_goes_26 : decode cX0_goes 26 = .ok (.getfield 20, 3) := dk_180 0 20 (dk_at dksX0_goes_1 4 rfl rfl)
theorem dX0_goes_29 : decode cX0_goes 29 = .ok (.invokevirtual 272, 3) := dk_182 1 16 (dk_at dksX0_goes_1 7 rfl rfl)
theorem dX0_goes_32 : decode cX0_goes 32 = .ok (.iconst 0, 1) := dk_3 (dk_at dksX0_goes_1 10 rfl rfl)
theorem dX0_goes_33 : decode cX0_goes 33 = .ok (.istore_n 3, 1) := dk_62 (dk_at dksX0_goes_1 11 rfl rfl)
theorem dX0_goes_34 : decode cX0_goes 34 = .ok (.iload_n 3, 1) := dk_29 (dk_at dksX0_goes_1 12 rfl rfl)
theorem dX0_goes_35 : decode cX0_goes 35 = .ok (.iload_n 1, 1) := dk_27 (dk_at dksX0_goes_1 13 rfl rfl)
theorem dX0_goes_36 : decode cX0_goes 36 = .ok (.if_icmp .ge 17, 3) := dk_162 0 17 (dk_at dksX0_goes_1 14 rfl rfl)
theorem dX0_goes_39 : decode cX0_goes 39 = .ok (.aload_n 0, 1) := dk_42 (dk_at dksX0_goes_1 17 rfl rfl)
theorem dX0_goes_40 : decode cX0_goes 40 = .ok (.getfield 27, 3) := dk_180 0 27 (dk_at dksX0_goes_1 18 rfl rfl)
theorem dX0_goes_43 : decode cX0_goes 43 = .ok (.invokevirtual 224, 3) := dk_182 0 224 (dk_at dksX0_goes_1 21 rfl rfl)
theorem dX0_goes_46 : decode cX0_goes 46 = .ok (.pop, 1) := dk_87 (dk_at dksX0_goes_2 0 rfl rfl)
theorem dX0_goes_47 : decode cX0_goes 47 = .ok (.iinc 3 1, 3) := dk_132 3 1 (dk_at dksX0_goes_2 1 rfl rfl)
theorem dX0_goes_50 : decode cX0_goes 50 = .ok (.goto (-16), 3) := dk_167 255 240 (dk_at dksX0_goes_2 4 rfl rfl)
theorem dX0_goes_53 : decode cX0_goes 53 = .ok (.iload_n 2, 1) := dk_28 (dk_at dksX0_goes_2 7 rfl rfl)
theorem dX0_goes_54 : decode cX0_goes 54 = .ok (.ifCond .ne 13, 3) := dk_154 0 13 (dk_at dksX0_goes_2 8 rfl rfl)
theorem dX0_goes_57 : decode cX0_goes 57 = .ok (.aload_n 0, 1) := dk_42 (dk_at dksX0_goes_2 11 rfl rfl)
theorem dX0_goes_58 : decode cX0_goes 58 = .ok (.getfield 27, 3) := dk_180 0 27 (dk_at dksX0_goes_2 12 rfl rfl)
theorem dX0_goes_61 : decode cX0_goes 61 = .ok (.getfield 186, 3) := dk_180 0 186 (dk_at dksX0_goes_2 15 rfl rfl)
theorem dX0_goes_64 : decode cX0_goes 64 = .ok (.goto 43, 3) := dk_167 0 43 (dk_at dksX0_goes_2 18 rfl rfl)
theorem dX0_goes_67 : decode cX0_goes 67 = .ok (.iload_n 2, 1) := dk_28 (dk_at dksX0_goes_2 21 rfl rfl)
theorem dX0_goes_68 : decode cX0_goes 68 = .ok (.iconst 1, 1) := dk_4 (dk_at dksX0_goes_2 22 rfl rfl)
theorem dX0_goes_69 : decode cX0_goes 69 = .ok (.if_icmp .ne 13, 3) := dk_160 0 13 (dk_at dksX0_goes_3 0 rfl rfl)
theorem dX0_goes_72 : decode cX0_goes 72 = .ok (.aload_n 0, 1) := dk_42 (dk_at dksX0_goes_3 3 rfl rfl)
theorem dX0_goes_73 : decode cX0_goes 73 = .ok (.getfield 27, 3) := dk_180 0 27 (dk_at dksX0_goes_3 4 rfl rfl)
theorem dX0_goes_76 : decode cX0_goes 76 = .ok (.getfield 189, 3) := dk_180 0 189 (dk_at dksX0_goes_3 7 rfl rfl)
theorem dX0_goes_79 : decode cX0_goes 79 = .ok (.goto 28, 3) := dk_167 0 28 (dk_at dksX0_goes_3 10 rfl rfl)
theorem dX0_goes_82 : decode cX0_goes 82 = .ok (.iload_n 2, 1) := dk_28 (dk_at dksX0_goes_3 13 rfl rfl)
theorem dX0_goes_83 : decode cX0_goes 83 = .ok (.iconst 2, 1) := dk_5 (dk_at dksX0_goes_3 14 rfl rfl)
theorem dX0_goes_84 : decode cX0_goes 84 = .ok (.if_icmp .ne 16, 3) := dk_160 0 16 (dk_at dksX0_goes_3 15 rfl rfl)
theorem dX0_goes_87 : decode cX0_goes 87 = .ok (.aload_n 0, 1) := dk_42 (dk_at dksX0_goes_3 18 rfl rfl)
theorem dX0_goes_88 : decode cX0_goes 88 = .ok (.getfield 27, 3) := dk_180 0 27 (dk_at dksX0_goes_3 19 rfl rfl)
theorem dX0_goes_91 : decode cX0_goes 91 = .ok (.getfield 195, 3) := dk_180 0 195 (dk_at dksX0_goes_4 0 rfl rfl)
theorem dX0_goes_94 : decode cX0_goes 94 = .ok (.getfield 199, 3) := dk_180 0 199 (dk_at dksX0_goes_4 3 rfl rfl)
theorem dX0_goes_97 : decode cX0_goes 97 = .ok (.goto 10, 3) := dk_167 0 10 (dk_at dksX0_goes_4 6 rfl rfl)
theorem dX0_goes_100 : decode cX0_goes 100 = .ok (.aload_n 0, 1) := dk_42 (dk_at dksX0_goes_4 9 rfl rfl)
theorem dX0_goes_101 : decode cX0_goes 101 = .ok (.getfield 27, 3) := dk_180 0 27 (dk_at dksX0_goes_4 10 rfl rfl)
theorem dX0_goes_104 : decode cX0_goes 104 = .ok (.getfield 275, 3) := dk_180 1 19 (dk_at dksX0_goes_4 13 rfl rfl)
theorem dX0_goes_107 : decode cX0_goes 107 = .ok (.ireturn, 1) := dk_172 (dk_at dksX0_goes_4 16 rfl rfl)
abbrev cX0_shortest : ByteArray := prog_1_method_33_code
def yX0_shortest : MethodName := ⟨RX0, "shortest", "(II)I"⟩
def dkwX0_shortest_6 : List UInt8 := [21, 5, 46, 167, 0, 10, 42, 180, 0, 46, 21, 5, 46, 172]
abbrev dktX0_shortest_6 : List UInt8 := dkwX0_shortest_6 ++ []
def dkwX0_shortest_5 : List UInt8 := [21, 5, 46, 19, 1, 22, 161, 0, 7, 2, 167, 0, 27, 28, 154, 0, 16, 42, 180, 0, 43, 21, 4, 50]
abbrev dktX0_shortest_5 : List UInt8 := dkwX0_shortest_5 ++ dktX0_shortest_6
def dkwX0_shortest_4 : List UInt8 := [21, 5, 46, 162, 0, 7, 21, 6, 54, 5, 132, 6, 1, 167, 255, 220, 42, 180, 0, 43, 21, 4, 50]
abbrev dktX0_shortest_4 : List UInt8 := dkwX0_shortest_4 ++ dktX0_shortest_5
def dkwX0_shortest_3 : List UInt8 := [21, 6, 29, 162, 0, 36, 42, 180, 0, 43, 21, 4, 50, 21, 6, 46, 42, 180, 0, 43, 21, 4, 50]
abbrev dktX0_shortest_3 : List UInt8 := dkwX0_shortest_3 ++ dktX0_shortest_4
def dkwX0_shortest_2 : List UInt8 := [172, 42, 182, 1, 26, 42, 27, 29, 182, 1, 29, 4, 29, 120, 4, 100, 54, 4, 3, 54, 5, 4, 54, 6]
abbrev dktX0_shortest_2 : List UInt8 := dkwX0_shortest_2 ++ dktX0_shortest_3
def dkwX0_shortest_1 : List UInt8 := [62, 29, 4, 162, 0, 22, 29, 2, 160, 0, 7, 2, 167, 0, 12, 28, 154, 0, 7, 3, 167, 0, 4, 27]
abbrev dktX0_shortest_1 : List UInt8 := dkwX0_shortest_1 ++ dktX0_shortest_2
def dkwX0_shortest_0 : List UInt8 := [42, 27, 182, 0, 170, 153, 0, 12, 28, 3, 4, 184, 0, 78, 154, 0, 5, 2, 172, 42, 27, 182, 1, 23]
abbrev dktX0_shortest_0 : List UInt8 := dkwX0_shortest_0 ++ dktX0_shortest_1
theorem dksX0_shortest_0 : cX0_shortest.data.toList.drop 0 = dktX0_shortest_0 := by decide +kernel
theorem dksX0_shortest_1 : cX0_shortest.data.toList.drop 24 = dktX0_shortest_1 := dk_seg dksX0_shortest_0 24 rfl rfl
theorem dksX0_shortest_2 : cX0_shortest.data.toList.drop 48 = dktX0_shortest_2 := dk_seg dksX0_shortest_1 24 rfl rfl
theorem dksX0_shortest_3 : cX0_shortest.data.toList.drop 72 = dktX0_shortest_3 := dk_seg dksX0_shortest_2 24 rfl rfl
theorem dksX0_shortest_4 : cX0_shortest.data.toList.drop 95 = dktX0_shortest_4 := dk_seg dksX0_shortest_3 23 rfl rfl
theorem dksX0_shortest_5 : cX0_shortest.data.toList.drop 118 = dktX0_shortest_5 := dk_seg dksX0_shortest_4 23 rfl rfl
theorem dksX0_shortest_6 : cX0_shortest.data.toList.drop 142 = dktX0_shortest_6 := dk_seg dksX0_shortest_5 24 rfl rfl
theorem dX0_shortest_0 : decode cX0_shortest 0 = .ok (.aload_n 0, 1) := dk_42 (dk_at dksX0_shortest_0 0 rfl rfl)
theorem dX0_shortest_1 : decode cX0_shortest 1 = .ok (.iload_n 1, 1) := dk_27 (dk_at dksX0_shortest_0 1 rfl rfl)
theorem dX0_shortest_2 : decode cX0_shortest 2 = .ok (.invokevirtual 170, 3) := dk_182 0 170 (dk_at dksX0_shortest_0 2 rfl rfl)
theorem dX0_shortest_5 : decode cX0_shortest 5 = .ok (.ifCond .eq 12, 3) := dk_153 0 12 (dk_at dksX0_shortest_0 5 rfl rfl)
theorem dX0_shortest_8 : decode cX0_shortest 8 = .ok (.iload_n 2, 1) := dk_28 (dk_at dksX0_shortest_0 8 rfl rfl)
theorem dX0_shortest_9 : decode cX0_shortest 9 = .ok (.iconst 0, 1) := dk_3 (dk_at dksX0_shortest_0 9 rfl rfl)
theorem dX0_shortest_10 : decode cX0_shortest 10 = .ok (.iconst 1, 1) := dk_4 (dk_at dksX0_shortest_0 10 rfl rfl)
theorem dX0_shortest_11 : decode cX0_shortest 11 = .ok (.invokestatic 78, 3) := dk_184 0 78 (dk_at dksX0_shortest_0 11 rfl rfl)
theorem dX0_shortest_14 : decode cX0_shortest 14 = .ok (.ifCond .ne 5, 3) := dk_154 0 5 (dk_at dksX0_shortest_0 14 rfl rfl)
theorem dX0_shortest_17 : decode cX0_shortest 17 = .ok (.iconst (-1), 1) := dk_2 (dk_at dksX0_shortest_0 17 rfl rfl)
theorem dX0_shortest_18 : decode cX0_shortest 18 = .ok (.ireturn, 1) := dk_172 (dk_at dksX0_shortest_0 18 rfl rfl)
theorem dX0_shortest_19 : decode cX0_shortest 19 = .ok (.aload_n 0, 1) := dk_42 (dk_at dksX0_shortest_0 19 rfl rfl)
theorem dX0_shortest_20 : decode cX0_shortest 20 = .ok (.iload_n 1, 1) := dk_27 (dk_at dksX0_shortest_0 20 rfl rfl)
theorem dX0_shortest_21 : decode cX0_shortest 21 = .ok (.invokevirtual 279, 3) := dk_182 1 23 (dk_at dksX0_shortest_0 21 rfl rfl)
theorem dX0_shortest_24 : decode cX0_shortest 24 = .ok (.istore_n 3, 1) := dk_62 (dk_at dksX0_shortest_1 0 rfl rfl)
theorem dX0_shortest_25 : decode cX0_shortest 25 = .ok (.iload_n 3, 1) := dk_29 (dk_at dksX0_shortest_1 1 rfl rfl)
theorem dX0_shortest_26 : decode cX0_shortest 26 = .ok (.iconst 1, 1) := dk_4 (dk_at dksX0_shortest_1 2 rfl rfl)
theorem dX0_shortest_27 : decode cX0_shortest 27 = .ok (.if_icmp .ge 22, 3) := dk_162 0 22 (dk_at dksX0_shortest_1 3 rfl rfl)
theorem dX0_shortest_30 : decode cX0_shortest 30 = .ok (.iload_n 3, 1) := dk_29 (dk_at dksX0_shortest_1 6 rfl rfl)
theorem dX0_shortest_31 : decode cX0_shortest 31 = .ok (.iconst (-1), 1) := dk_2 (dk_at dksX0_shortest_1 7 rfl rfl)
theorem dX0_shortest_32 : decode cX0_shortest 32 = .ok (.if_icmp .ne 7, 3) := dk_160 0 7 (dk_at dksX0_shortest_1 8 rfl rfl)
theorem dX0_shortest_35 : decode cX0_shortest 35 = .ok (.iconst (-1), 1) := dk_2 (dk_at dksX0_shortest_1 11 rfl rfl)
theorem dX0_shortest_36 : decode cX0_shortest 36 = .ok (.goto 12, 3) := dk_167 0 12 (dk_at dksX0_shortest_1 12 rfl rfl)
theorem dX0_shortest_39 : decode cX0_shortest 39 = .ok (.iload_n 2, 1) := dk_28 (dk_at dksX0_shortest_1 15 rfl rfl)
theorem dX0_shortest_40 : decode cX0_shortest 40 = .ok (.ifCond .ne 7, 3) := dk_154 0 7 (dk_at dksX0_shortest_1 16 rfl rfl)
theorem dX0_shortest_43 : decode cX0_shortest 43 = .ok (.iconst 0, 1) := dk_3 (dk_at dksX0_shortest_1 19 rfl rfl)
theorem dX0_shortest_44 : decode cX0_shortest 44 = .ok (.goto 4, 3) := dk_167 0 4 (dk_at dksX0_shortest_1 20 rfl rfl)
theorem dX0_shortest_47 : decode cX0_shortest 47 = .ok (.iload_n 1, 1) := dk_27 (dk_at dksX0_shortest_1 23 rfl rfl)
theorem dX0_shortest_48 : decode cX0_shortest 48 = .ok (.ireturn, 1) := dk_172 (dk_at dksX0_shortest_2 0 rfl rfl)
theorem dX0_shortest_49 : decode cX0_shortest 49 = .ok (.aload_n 0, 1) := dk_42 (dk_at dksX0_shortest_2 1 rfl rfl)
theorem dX0_shortest_50 : decode cX0_shortest 50 = .ok (.invokevirtual 282, 3) := dk_182 1 26 (dk_at dksX0_shortest_2 2 rfl rfl)
theorem dX0_shortest_53 : decode cX0_shortest 53 = .ok (.aload_n 0, 1) := dk_42 (dk_at dksX0_shortest_2 5 rfl rfl)
theorem dX0_shortest_54 : decode cX0_shortest 54 = .ok (.iload_n 1, 1) := dk_27 (dk_at dksX0_shortest_2 6 rfl rfl)
theorem dX0_shortest_55 : decode cX0_shortest 55 = .ok (.iload_n 3, 1) := dk_29 (dk_at dksX0_shortest_2 7 rfl rfl)
theorem dX0_shortest_56 : decode cX0_shortest 56 = .ok (.invokevirtual 285, 3) := dk_182 1 29 (dk_at dksX0_shortest_2 8 rfl rfl)
theorem dX0_shortest_59 : decode cX0_shortest 59 = .ok (.iconst 1, 1) := dk_4 (dk_at dksX0_shortest_2 11 rfl rfl)
theorem dX0_shortest_60 : decode cX0_shortest 60 = .ok (.iload_n 3, 1) := dk_29 (dk_at dksX0_shortest_2 12 rfl rfl)
theorem dX0_shortest_61 : decode cX0_shortest 61 = .ok (.ishl, 1) := dk_120 (dk_at dksX0_shortest_2 13 rfl rfl)
theorem dX0_shortest_62 : decode cX0_shortest 62 = .ok (.iconst 1, 1) := dk_4 (dk_at dksX0_shortest_2 14 rfl rfl)
theorem dX0_shortest_63 : decode cX0_shortest 63 = .ok (.isub, 1) := dk_100 (dk_at dksX0_shortest_2 15 rfl rfl)
theorem dX0_shortest_64 : decode cX0_shortest 64 = .ok (.istore 4, 2) := dk_54 4 (dk_at dksX0_shortest_2 16 rfl rfl)
theorem dX0_shortest_66 : decode cX0_shortest 66 = .ok (.iconst 0, 1) := dk_3 (dk_at dksX0_shortest_2 18 rfl rfl)
theorem dX0_shortest_67 : decode cX0_shortest 67 = .ok (.istore 5, 2) := dk_54 5 (dk_at dksX0_shortest_2 19 rfl rfl)
theorem dX0_shortest_69 : decode cX0_shortest 69 = .ok (.iconst 1, 1) := dk_4 (dk_at dksX0_shortest_2 21 rfl rfl)
theorem dX0_shortest_70 : decode cX0_shortest 70 = .ok (.istore 6, 2) := dk_54 6 (dk_at dksX0_shortest_2 22 rfl rfl)
theorem dX0_shortest_72 : decode cX0_shortest 72 = .ok (.iload 6, 2) := dk_21 6 (dk_at dksX0_shortest_3 0 rfl rfl)
theorem dX0_shortest_74 : decode cX0_shortest 74 = .ok (.iload_n 3, 1) := dk_29 (dk_at dksX0_shortest_3 2 rfl rfl)
theorem dX0_shortest_75 : decode cX0_shortest 75 = .ok (.if_icmp .ge 36, 3) := dk_162 0 36 (dk_at dksX0_shortest_3 3 rfl rfl)
theorem dX0_shortest_78 : decode cX0_shortest 78 = .ok (.aload_n 0, 1) := dk_42 (dk_at dksX0_shortest_3 6 rfl rfl)
theorem dX0_shortest_79 : decode cX0_shortest 79 = .ok (.getfield 43, 3) := dk_180 0 43 (dk_at dksX0_shortest_3 7 rfl rfl)
theorem dX0_shortest_82 : decode cX0_shortest 82 = .ok (.iload 4, 2) := dk_21 4 (dk_at dksX0_shortest_3 10 rfl rfl)
theorem dX0_shortest_84 : decode cX0_shortest 84 = .ok (.aaload, 1) := dk_50 (dk_at dksX0_shortest_3 12 rfl rfl)
theorem dX0_shortest_85 : decode cX0_shortest 85 = .ok (.iload 6, 2) := dk_21 6 (dk_at dksX0_shortest_3 13 rfl rfl)
theorem dX0_shortest_87 : decode cX0_shortest 87 = .ok (.iaload, 1) := dk_46 (dk_at dksX0_shortest_3 15 rfl rfl)
theorem dX0_shortest_88 : decode cX0_shortest 88 = .ok (.aload_n 0, 1) := dk_42 (dk_at dksX0_shortest_3 16 rfl rfl)
theorem dX0_shortest_89 : decode cX0_shortest 89 = .ok (.getfield 43, 3) := dk_180 0 43 (dk_at dksX0_shortest_3 17 rfl rfl)
theorem dX0_shortest_92 : decode cX0_shortest 92 = .ok (.iload 4, 2) := dk_21 4 (dk_at dksX0_shortest_3 20 rfl rfl)
theorem dX0_shortest_94 : decode cX0_shortest 94 = .ok (.aaload, 1) := dk_50 (dk_at dksX0_shortest_3 22 rfl rfl)
theorem dX0_shortest_95 : decode cX0_shortest 95 = .ok (.iload 5, 2) := dk_21 5 (dk_at dksX0_shortest_4 0 rfl rfl)
theorem dX0_shortest_97 : decode cX0_shortest 97 = .ok (.iaload, 1) := dk_46 (dk_at dksX0_shortest_4 2 rfl rfl)
theorem dX0_shortest_98 : decode cX0_shortest 98 = .ok (.if_icmp .ge 7, 3) := dk_162 0 7 (dk_at dksX0_shortest_4 3 rfl rfl)
theorem dX0_shortest_101 : decode cX0_shortest 101 = .ok (.iload 6, 2) := dk_21 6 (dk_at dksX0_shortest_4 6 rfl rfl)
theorem dX0_shortest_103 : decode cX0_shortest 103 = .ok (.istore 5, 2) := dk_54 5 (dk_at dksX0_shortest_4 8 rfl rfl)
theorem dX0_shortest_105 : decode cX0_shortest 105 = .ok (.iinc 6 1, 3) := dk_132 6 1 (dk_at dksX0_shortest_4 10 rfl rfl)
theorem dX0_shortest_108 : decode cX0_shortest 108 = .ok (.goto (-36), 3) := dk_167 255 220 (dk_at dksX0_shortest_4 13 rfl rfl)
theorem dX0_shortest_111 : decode cX0_shortest 111 = .ok (.aload_n 0, 1) := dk_42 (dk_at dksX0_shortest_4 16 rfl rfl)
theorem dX0_shortest_112 : decode cX0_shortest 112 = .ok (.getfield 43, 3) := dk_180 0 43 (dk_at dksX0_shortest_4 17 rfl rfl)
theorem dX0_shortest_115 : decode cX0_shortest 115 = .ok (.iload 4, 2) := dk_21 4 (dk_at dksX0_shortest_4 20 rfl rfl)
theorem dX0_shortest_117 : decode cX0_shortest 117 = .ok (.aaload, 1) := dk_50 (dk_at dksX0_shortest_4 22 rfl rfl)
theorem dX0_shortest_118 : decode cX0_shortest 118 = .ok (.iload 5, 2) := dk_21 5 (dk_at dksX0_shortest_5 0 rfl rfl)
theorem dX0_shortest_120 : decode cX0_shortest 120 = .ok (.iaload, 1) := dk_46 (dk_at dksX0_shortest_5 2 rfl rfl)
theorem dX0_shortest_121 : decode cX0_shortest 121 = .ok (.ldc_w 278, 3) := dk_19 1 22 (dk_at dksX0_shortest_5 3 rfl rfl)
theorem dX0_shortest_124 : decode cX0_shortest 124 = .ok (.if_icmp .lt 7, 3) := dk_161 0 7 (dk_at dksX0_shortest_5 6 rfl rfl)
theorem dX0_shortest_127 : decode cX0_shortest 127 = .ok (.iconst (-1), 1) := dk_2 (dk_at dksX0_shortest_5 9 rfl rfl)
theorem dX0_shortest_128 : decode cX0_shortest 128 = .ok (.goto 27, 3) := dk_167 0 27 (dk_at dksX0_shortest_5 10 rfl rfl)
theorem dX0_shortest_131 : decode cX0_shortest 131 = .ok (.iload_n 2, 1) := dk_28 (dk_at dksX0_shortest_5 13 rfl rfl)
theorem dX0_shortest_132 : decode cX0_shortest 132 = .ok (.ifCond .ne 16, 3) := dk_154 0 16 (dk_at dksX0_shortest_5 14 rfl rfl)
theorem dX0_shortest_135 : decode cX0_shortest 135 = .ok (.aload_n 0, 1) := dk_42 (dk_at dksX0_shortest_5 17 rfl rfl)
theorem dX0_shortest_136 : decode cX0_shortest 136 = .ok (.getfield 43, 3) := dk_180 0 43 (dk_at dksX0_shortest_5 18 rfl rfl)
theorem dX0_shortest_139 : decode cX0_shortest 139 = .ok (.iload 4, 2) := dk_21 4 (dk_at dksX0_shortest_5 21 rfl rfl)
theorem dX0_shortest_141 : decode cX0_shortest 141 = .ok (.aaload, 1) := dk_50 (dk_at dksX0_shortest_5 23 rfl rfl)
theorem dX0_shortest_142 : decode cX0_shortest 142 = .ok (.iload 5, 2) := dk_21 5 (dk_at dksX0_shortest_6 0 rfl rfl)
theorem dX0_shortest_144 : decode cX0_shortest 144 = .ok (.iaload, 1) := dk_46 (dk_at dksX0_shortest_6 2 rfl rfl)
theorem dX0_shortest_145 : decode cX0_shortest 145 = .ok (.goto 10, 3) := dk_167 0 10 (dk_at dksX0_shortest_6 3 rfl rfl)
theorem dX0_shortest_148 : decode cX0_shortest 148 = .ok (.aload_n 0, 1) := dk_42 (dk_at dksX0_shortest_6 6 rfl rfl)
theorem dX0_shortest_149 : decode cX0_shortest 149 = .ok (.getfield 46, 3) := dk_180 0 46 (dk_at dksX0_shortest_6 7 rfl rfl)
theorem dX0_shortest_152 : decode cX0_shortest 152 = .ok (.iload 5, 2) := dk_21 5 (dk_at dksX0_shortest_6 10 rfl rfl)
theorem dX0_shortest_154 : decode cX0_shortest 154 = .ok (.iaload, 1) := dk_46 (dk_at dksX0_shortest_6 12 rfl rfl)
theorem dX0_shortest_155 : decode cX0_shortest 155 = .ok (.ireturn, 1) := dk_172 (dk_at dksX0_shortest_6 13 rfl rfl)
abbrev cX0_laysGoals : ByteArray := prog_1_method_31_code
def yX0_laysGoals : MethodName := ⟨RX0, "laysGoals", "(I)I"⟩
def dkwX0_laysGoals_2 : List UInt8 := [42, 180, 0, 46, 28, 29, 79, 132, 2, 1, 132, 3, 1, 167, 255, 199, 28, 172]
abbrev dktX0_laysGoals_2 : List UInt8 := dkwX0_laysGoals_2 ++ []
def dkwX0_laysGoals_1 : List UInt8 := [180, 0, 195, 29, 182, 0, 230, 154, 0, 6, 167, 0, 24, 28, 42, 180, 0, 46, 190, 160, 0, 5, 2, 172]
abbrev dktX0_laysGoals_1 : List UInt8 := dkwX0_laysGoals_1 ++ dktX0_laysGoals_2
def dkwX0_laysGoals_0 : List UInt8 := [3, 61, 3, 62, 29, 42, 180, 0, 20, 180, 0, 151, 162, 0, 52, 29, 27, 159, 0, 41, 42, 180, 0, 20]
abbrev dktX0_laysGoals_0 : List UInt8 := dkwX0_laysGoals_0 ++ dktX0_laysGoals_1
theorem dksX0_laysGoals_0 : cX0_laysGoals.data.toList.drop 0 = dktX0_laysGoals_0 := by decide +kernel
theorem dksX0_laysGoals_1 : cX0_laysGoals.data.toList.drop 24 = dktX0_laysGoals_1 := dk_seg dksX0_laysGoals_0 24 rfl rfl
theorem dksX0_laysGoals_2 : cX0_laysGoals.data.toList.drop 48 = dktX0_laysGoals_2 := dk_seg dksX0_laysGoals_1 24 rfl rfl
theorem dX0_laysGoals_0 : decode cX0_laysGoals 0 = .ok (.iconst 0, 1) := dk_3 (dk_at dksX0_laysGoals_0 0 rfl rfl)
theorem dX0_laysGoals_1 : decode cX0_laysGoals 1 = .ok (.istore_n 2, 1) := dk_61 (dk_at dksX0_laysGoals_0 1 rfl rfl)
theorem dX0_laysGoals_2 : decode cX0_laysGoals 2 = .ok (.iconst 0, 1) := dk_3 (dk_at dksX0_laysGoals_0 2 rfl rfl)
theorem dX0_laysGoals_3 : decode cX0_laysGoals 3 = .ok (.istore_n 3, 1) := dk_62 (dk_at dksX0_laysGoals_0 3 rfl rfl)
theorem dX0_laysGoals_4 : decode cX0_laysGoals 4 = .ok (.iload_n 3, 1) := dk_29 (dk_at dksX0_laysGoals_0 4 rfl rfl)
theorem dX0_laysGoals_5 : decode cX0_laysGoals 5 = .ok (.aload_n 0, 1) := dk_42 (dk_at dksX0_laysGoals_0 5 rfl rfl)
theorem dX0_laysGoals_6 : decode cX0_laysGoals 6 = .ok (.getfield 20, 3) := dk_180 0 20 (dk_at dksX0_laysGoals_0 6 rfl rfl)
theorem dX0_laysGoals_9 : decode cX0_laysGoals 9 = .ok (.getfield 151, 3) := dk_180 0 151 (dk_at dksX0_laysGoals_0 9 rfl rfl)
theorem dX0_laysGoals_12 : decode cX0_laysGoals 12 = .ok (.if_icmp .ge 52, 3) := dk_162 0 52 (dk_at dksX0_laysGoals_0 12 rfl rfl)
theorem dX0_laysGoals_15 : decode cX0_laysGoals 15 = .ok (.iload_n 3, 1) := dk_29 (dk_at dksX0_laysGoals_0 15 rfl rfl)
theorem dX0_laysGoals_16 : decode cX0_laysGoals 16 = .ok (.iload_n 1, 1) := dk_27 (dk_at dksX0_laysGoals_0 16 rfl rfl)
theorem dX0_laysGoals_17 : decode cX0_laysGoals 17 = .ok (.if_icmp .eq 41, 3) := dk_159 0 41 (dk_at dksX0_laysGoals_0 17 rfl rfl)
theorem dX0_laysGoals_20 : decode cX0_laysGoals 20 = .ok (.aload_n 0, 1) := dk_42 (dk_at dksX0_laysGoals_0 20 rfl rfl)
theorem dX0_laysGoals_21 : decode cX0_laysGoals 21 = .ok (.getfield 20, 3) := dk_180 0 20 (dk_at dksX0_laysGoals_0 21 rfl rfl)
theorem dX0_laysGoals_24 : decode cX0_laysGoals 24 = .ok (.getfield 195, 3) := dk_180 0 195 (dk_at dksX0_laysGoals_1 0 rfl rfl)
theorem dX0_laysGoals_27 : decode cX0_laysGoals 27 = .ok (.iload_n 3, 1) := dk_29 (dk_at dksX0_laysGoals_1 3 rfl rfl)
theorem dX0_laysGoals_28 : decode cX0_laysGoals 28 = .ok (.invokevirtual 230, 3) := dk_182 0 230 (dk_at dksX0_laysGoals_1 4 rfl rfl)
theorem dX0_laysGoals_31 : decode cX0_laysGoals 31 = .ok (.ifCond .ne 6, 3) := dk_154 0 6 (dk_at dksX0_laysGoals_1 7 rfl rfl)
theorem dX0_laysGoals_34 : decode cX0_laysGoals 34 = .ok (.goto 24, 3) := dk_167 0 24 (dk_at dksX0_laysGoals_1 10 rfl rfl)
theorem dX0_laysGoals_37 : decode cX0_laysGoals 37 = .ok (.iload_n 2, 1) := dk_28 (dk_at dksX0_laysGoals_1 13 rfl rfl)
theorem dX0_laysGoals_38 : decode cX0_laysGoals 38 = .ok (.aload_n 0, 1) := dk_42 (dk_at dksX0_laysGoals_1 14 rfl rfl)
theorem dX0_laysGoals_39 : decode cX0_laysGoals 39 = .ok (.getfield 46, 3) := dk_180 0 46 (dk_at dksX0_laysGoals_1 15 rfl rfl)
theorem dX0_laysGoals_42 : decode cX0_laysGoals 42 = .ok (.arraylength, 1) := dk_190 (dk_at dksX0_laysGoals_1 18 rfl rfl)
theorem dX0_laysGoals_43 : decode cX0_laysGoals 43 = .ok (.if_icmp .ne 5, 3) := dk_160 0 5 (dk_at dksX0_laysGoals_1 19 rfl rfl)
theorem dX0_laysGoals_46 : decode cX0_laysGoals 46 = .ok (.iconst (-1), 1) := dk_2 (dk_at dksX0_laysGoals_1 22 rfl rfl)
theorem dX0_laysGoals_47 : decode cX0_laysGoals 47 = .ok (.ireturn, 1) := dk_172 (dk_at dksX0_laysGoals_1 23 rfl rfl)
theorem dX0_laysGoals_48 : decode cX0_laysGoals 48 = .ok (.aload_n 0, 1) := dk_42 (dk_at dksX0_laysGoals_2 0 rfl rfl)
theorem dX0_laysGoals_49 : decode cX0_laysGoals 49 = .ok (.getfield 46, 3) := dk_180 0 46 (dk_at dksX0_laysGoals_2 1 rfl rfl)
theorem dX0_laysGoals_52 : decode cX0_laysGoals 52 = .ok (.iload_n 2, 1) := dk_28 (dk_at dksX0_laysGoals_2 4 rfl rfl)
theorem dX0_laysGoals_53 : decode cX0_laysGoals 53 = .ok (.iload_n 3, 1) := dk_29 (dk_at dksX0_laysGoals_2 5 rfl rfl)
theorem dX0_laysGoals_54 : decode cX0_laysGoals 54 = .ok (.iastore, 1) := dk_79 (dk_at dksX0_laysGoals_2 6 rfl rfl)
theorem dX0_laysGoals_55 : decode cX0_laysGoals 55 = .ok (.iinc 2 1, 3) := dk_132 2 1 (dk_at dksX0_laysGoals_2 7 rfl rfl)
theorem dX0_laysGoals_58 : decode cX0_laysGoals 58 = .ok (.iinc 3 1, 3) := dk_132 3 1 (dk_at dksX0_laysGoals_2 10 rfl rfl)
theorem dX0_laysGoals_61 : decode cX0_laysGoals 61 = .ok (.goto (-57), 3) := dk_167 255 199 (dk_at dksX0_laysGoals_2 13 rfl rfl)
theorem dX0_laysGoals_64 : decode cX0_laysGoals 64 = .ok (.iload_n 2, 1) := dk_28 (dk_at dksX0_laysGoals_2 16 rfl rfl)
theorem dX0_laysGoals_65 : decode cX0_laysGoals 65 = .ok (.ireturn, 1) := dk_172 (dk_at dksX0_laysGoals_2 17 rfl rfl)
abbrev cX0_laysFar : ByteArray := prog_1_method_30_code
def yX0_laysFar : MethodName := ⟨RX0, "laysFar", "()V"⟩
def dkwX0_laysFar_7 : List UInt8 := [132, 1, 1, 167, 255, 168, 177]
abbrev dktX0_laysFar_7 : List UInt8 := dkwX0_laysFar_7 ++ []
def dkwX0_laysFar_6 : List UInt8 := [180, 0, 40, 27, 50, 29, 46, 96, 184, 0, 62, 79, 132, 3, 1, 167, 255, 206, 132, 2, 1, 167, 255, 187]
abbrev dktX0_laysFar_6 : List UInt8 := dkwX0_laysFar_6 ++ dktX0_laysFar_7
def dkwX0_laysFar_5 : List UInt8 := [42, 180, 0, 40, 28, 50, 29, 42, 180, 0, 40, 28, 50, 29, 46, 42, 180, 0, 40, 28, 50, 27, 46, 42]
abbrev dktX0_laysFar_5 : List UInt8 := dkwX0_laysFar_5 ++ dktX0_laysFar_6
def dkwX0_laysFar_4 : List UInt8 := [28, 42, 180, 0, 20, 180, 0, 151, 162, 0, 64, 3, 62, 29, 42, 180, 0, 20, 180, 0, 151, 162, 0, 45]
abbrev dktX0_laysFar_4 : List UInt8 := dkwX0_laysFar_4 ++ dktX0_laysFar_5
def dkwX0_laysFar_3 : List UInt8 := [167, 255, 203, 132, 1, 1, 167, 255, 184, 3, 60, 27, 42, 180, 0, 20, 180, 0, 151, 162, 0, 83, 3, 61]
abbrev dktX0_laysFar_3 : List UInt8 := dkwX0_laysFar_3 ++ dktX0_laysFar_4
def dkwX0_laysFar_2 : List UInt8 := [182, 0, 233, 2, 160, 0, 9, 19, 1, 22, 167, 0, 9, 42, 27, 28, 182, 0, 233, 79, 132, 2, 1]
abbrev dktX0_laysFar_2 : List UInt8 := dkwX0_laysFar_2 ++ dktX0_laysFar_3
def dkwX0_laysFar_1 : List UInt8 := [162, 0, 48, 42, 180, 0, 40, 27, 50, 28, 27, 28, 160, 0, 7, 3, 167, 0, 25, 42, 27, 28]
abbrev dktX0_laysFar_1 : List UInt8 := dkwX0_laysFar_1 ++ dktX0_laysFar_2
def dkwX0_laysFar_0 : List UInt8 := [3, 60, 27, 42, 180, 0, 20, 180, 0, 151, 162, 0, 67, 3, 61, 28, 42, 180, 0, 20, 180, 0, 151]
abbrev dktX0_laysFar_0 : List UInt8 := dkwX0_laysFar_0 ++ dktX0_laysFar_1
theorem dksX0_laysFar_0 : cX0_laysFar.data.toList.drop 0 = dktX0_laysFar_0 := by decide +kernel
theorem dksX0_laysFar_1 : cX0_laysFar.data.toList.drop 23 = dktX0_laysFar_1 := dk_seg dksX0_laysFar_0 23 rfl rfl
theorem dksX0_laysFar_2 : cX0_laysFar.data.toList.drop 45 = dktX0_laysFar_2 := dk_seg dksX0_laysFar_1 22 rfl rfl
theorem dksX0_laysFar_3 : cX0_laysFar.data.toList.drop 68 = dktX0_laysFar_3 := dk_seg dksX0_laysFar_2 23 rfl rfl
theorem dksX0_laysFar_4 : cX0_laysFar.data.toList.drop 92 = dktX0_laysFar_4 := dk_seg dksX0_laysFar_3 24 rfl rfl
theorem dksX0_laysFar_5 : cX0_laysFar.data.toList.drop 116 = dktX0_laysFar_5 := dk_seg dksX0_laysFar_4 24 rfl rfl
theorem dksX0_laysFar_6 : cX0_laysFar.data.toList.drop 140 = dktX0_laysFar_6 := dk_seg dksX0_laysFar_5 24 rfl rfl
theorem dksX0_laysFar_7 : cX0_laysFar.data.toList.drop 164 = dktX0_laysFar_7 := dk_seg dksX0_laysFar_6 24 rfl rfl
theorem dX0_laysFar_0 : decode cX0_laysFar 0 = .ok (.iconst 0, 1) := dk_3 (dk_at dksX0_laysFar_0 0 rfl rfl)
theorem dX0_laysFar_1 : decode cX0_laysFar 1 = .ok (.istore_n 1, 1) := dk_60 (dk_at dksX0_laysFar_0 1 rfl rfl)
theorem dX0_laysFar_2 : decode cX0_laysFar 2 = .ok (.iload_n 1, 1) := dk_27 (dk_at dksX0_laysFar_0 2 rfl rfl)
theorem dX0_laysFar_3 : decode cX0_laysFar 3 = .ok (.aload_n 0, 1) := dk_42 (dk_at dksX0_laysFar_0 3 rfl rfl)
theorem dX0_laysFar_4 : decode cX0_laysFar 4 = .ok (.getfield 20, 3) := dk_180 0 20 (dk_at dksX0_laysFar_0 4 rfl rfl)
theorem dX0_laysFar_7 : decode cX0_laysFar 7 = .ok (.getfield 151, 3) := dk_180 0 151 (dk_at dksX0_laysFar_0 7 rfl rfl)
theorem dX0_laysFar_10 : decode cX0_laysFar 10 = .ok (.if_icmp .ge 67, 3) := dk_162 0 67 (dk_at dksX0_laysFar_0 10 rfl rfl)
theorem dX0_laysFar_13 : decode cX0_laysFar 13 = .ok (.iconst 0, 1) := dk_3 (dk_at dksX0_laysFar_0 13 rfl rfl)
theorem dX0_laysFar_14 : decode cX0_laysFar 14 = .ok (.istore_n 2, 1) := dk_61 (dk_at dksX0_laysFar_0 14 rfl rfl)
theorem dX0_laysFar_15 : decode cX0_laysFar 15 = .ok (.iload_n 2, 1) := dk_28 (dk_at dksX0_laysFar_0 15 rfl rfl)
theorem dX0_laysFar_16 : decode cX0_laysFar 16 = .ok (.aload_n 0, 1) := dk_42 (dk_at dksX0_laysFar_0 16 rfl rfl)
theorem dX0_laysFar_17 : decode cX0_laysFar 17 = .ok (.getfield 20, 3) := dk_180 0 20 (dk_at dksX0_laysFar_0 17 rfl rfl)
theorem dX0_laysFar_20 : decode cX0_laysFar 20 = .ok (.getfield 151, 3) := dk_180 0 151 (dk_at dksX0_laysFar_0 20 rfl rfl)
theorem dX0_laysFar_23 : decode cX0_laysFar 23 = .ok (.if_icmp .ge 48, 3) := dk_162 0 48 (dk_at dksX0_laysFar_1 0 rfl rfl)
theorem dX0_laysFar_26 : decode cX0_laysFar 26 = .ok (.aload_n 0, 1) := dk_42 (dk_at dksX0_laysFar_1 3 rfl rfl)
theorem dX0_laysFar_27 : decode cX0_laysFar 27 = .ok (.getfield 40, 3) := dk_180 0 40 (dk_at dksX0_laysFar_1 4 rfl rfl)
theorem dX0_laysFar_30 : decode cX0_laysFar 30 = .ok (.iload_n 1, 1) := dk_27 (dk_at dksX0_laysFar_1 7 rfl rfl)
theorem dX0_laysFar_31 : decode cX0_laysFar 31 = .ok (.aaload, 1) := dk_50 (dk_at dksX0_laysFar_1 8 rfl rfl)
theorem dX0_laysFar_32 : decode cX0_laysFar 32 = .ok (.iload_n 2, 1) := dk_28 (dk_at dksX0_laysFar_1 9 rfl rfl)
theorem dX0_laysFar_33 : decode cX0_laysFar 33 = .ok (.iload_n 1, 1) := dk_27 (dk_at dksX0_laysFar_1 10 rfl rfl)
theorem dX0_laysFar_34 : decode cX0_laysFar 34 = .ok (.iload_n 2, 1) := dk_28 (dk_at dksX0_laysFar_1 11 rfl rfl)
theorem dX0_laysFar_35 : decode cX0_laysFar 35 = .ok (.if_icmp .ne 7, 3) := dk_160 0 7 (dk_at dksX0_laysFar_1 12 rfl rfl)
theorem dX0_laysFar_38 : decode cX0_laysFar 38 = .ok (.iconst 0, 1) := dk_3 (dk_at dksX0_laysFar_1 15 rfl rfl)
theorem dX0_laysFar_39 : decode cX0_laysFar 39 = .ok (.goto 25, 3) := dk_167 0 25 (dk_at dksX0_laysFar_1 16 rfl rfl)
theorem dX0_laysFar_42 : decode cX0_laysFar 42 = .ok (.aload_n 0, 1) := dk_42 (dk_at dksX0_laysFar_1 19 rfl rfl)
theorem dX0_laysFar_43 : decode cX0_laysFar 43 = .ok (.iload_n 1, 1) := dk_27 (dk_at dksX0_laysFar_1 20 rfl rfl)
theorem dX0_laysFar_44 : decode cX0_laysFar 44 = .ok (.iload_n 2, 1) := dk_28 (dk_at dksX0_laysFar_1 21 rfl rfl)
theorem dX0_laysFar_45 : decode cX0_laysFar 45 = .ok (.invokevirtual 233, 3) := dk_182 0 233 (dk_at dksX0_laysFar_2 0 rfl rfl)
theorem dX0_laysFar_48 : decode cX0_laysFar 48 = .ok (.iconst (-1), 1) := dk_2 (dk_at dksX0_laysFar_2 3 rfl rfl)
theorem dX0_laysFar_49 : decode cX0_laysFar 49 = .ok (.if_icmp .ne 9, 3) := dk_160 0 9 (dk_at dksX0_laysFar_2 4 rfl rfl)
theorem dX0_laysFar_52 : decode cX0_laysFar 52 = .ok (.ldc_w 278, 3) := dk_19 1 22 (dk_at dksX0_laysFar_2 7 rfl rfl)
theorem dX0_laysFar_55 : decode cX0_laysFar 55 = .ok (.goto 9, 3) := dk_167 0 9 (dk_at dksX0_laysFar_2 10 rfl rfl)
theorem dX0_laysFar_58 : decode cX0_laysFar 58 = .ok (.aload_n 0, 1) := dk_42 (dk_at dksX0_laysFar_2 13 rfl rfl)
theorem dX0_laysFar_59 : decode cX0_laysFar 59 = .ok (.iload_n 1, 1) := dk_27 (dk_at dksX0_laysFar_2 14 rfl rfl)
theorem dX0_laysFar_60 : decode cX0_laysFar 60 = .ok (.iload_n 2, 1) := dk_28 (dk_at dksX0_laysFar_2 15 rfl rfl)
theorem dX0_laysFar_61 : decode cX0_laysFar 61 = .ok (.invokevirtual 233, 3) := dk_182 0 233 (dk_at dksX0_laysFar_2 16 rfl rfl)
theorem dX0_laysFar_64 : decode cX0_laysFar 64 = .ok (.iastore, 1) := dk_79 (dk_at dksX0_laysFar_2 19 rfl rfl)
theorem dX0_laysFar_65 : decode cX0_laysFar 65 = .ok (.iinc 2 1, 3) := dk_132 2 1 (dk_at dksX0_laysFar_2 20 rfl rfl)
theorem dX0_laysFar_68 : decode cX0_laysFar 68 = .ok (.goto (-53), 3) := dk_167 255 203 (dk_at dksX0_laysFar_3 0 rfl rfl)
theorem dX0_laysFar_71 : decode cX0_laysFar 71 = .ok (.iinc 1 1, 3) := dk_132 1 1 (dk_at dksX0_laysFar_3 3 rfl rfl)
theorem dX0_laysFar_74 : decode cX0_laysFar 74 = .ok (.goto (-72), 3) := dk_167 255 184 (dk_at dksX0_laysFar_3 6 rfl rfl)
theorem dX0_laysFar_77 : decode cX0_laysFar 77 = .ok (.iconst 0, 1) := dk_3 (dk_at dksX0_laysFar_3 9 rfl rfl)
theorem dX0_laysFar_78 : decode cX0_laysFar 78 = .ok (.istore_n 1, 1) := dk_60 (dk_at dksX0_laysFar_3 10 rfl rfl)
theorem dX0_laysFar_79 : decode cX0_laysFar 79 = .ok (.iload_n 1, 1) := dk_27 (dk_at dksX0_laysFar_3 11 rfl rfl)
theorem dX0_laysFar_80 : decode cX0_laysFar 80 = .ok (.aload_n 0, 1) := dk_42 (dk_at dksX0_laysFar_3 12 rfl rfl)
theorem dX0_laysFar_81 : decode cX0_laysFar 81 = .ok (.getfield 20, 3) := dk_180 0 20 (dk_at dksX0_laysFar_3 13 rfl rfl)
theorem dX0_laysFar_84 : decode cX0_laysFar 84 = .ok (.getfield 151, 3) := dk_180 0 151 (dk_at dksX0_laysFar_3 16 rfl rfl)
theorem dX0_laysFar_87 : decode cX0_laysFar 87 = .ok (.if_icmp .ge 83, 3) := dk_162 0 83 (dk_at dksX0_laysFar_3 19 rfl rfl)
theorem dX0_laysFar_90 : decode cX0_laysFar 90 = .ok (.iconst 0, 1) := dk_3 (dk_at dksX0_laysFar_3 22 rfl rfl)
theorem dX0_laysFar_91 : decode cX0_laysFar 91 = .ok (.istore_n 2, 1) := dk_61 (dk_at dksX0_laysFar_3 23 rfl rfl)
theorem dX0_laysFar_92 : decode cX0_laysFar 92 = .ok (.iload_n 2, 1) := dk_28 (dk_at dksX0_laysFar_4 0 rfl rfl)
theorem dX0_laysFar_93 : decode cX0_laysFar 93 = .ok (.aload_n 0, 1) := dk_42 (dk_at dksX0_laysFar_4 1 rfl rfl)
theorem dX0_laysFar_94 : decode cX0_laysFar 94 = .ok (.getfield 20, 3) := dk_180 0 20 (dk_at dksX0_laysFar_4 2 rfl rfl)
theorem dX0_laysFar_97 : decode cX0_laysFar 97 = .ok (.getfield 151, 3) := dk_180 0 151 (dk_at dksX0_laysFar_4 5 rfl rfl)
theorem dX0_laysFar_100 : decode cX0_laysFar 100 = .ok (.if_icmp .ge 64, 3) := dk_162 0 64 (dk_at dksX0_laysFar_4 8 rfl rfl)
theorem dX0_laysFar_103 : decode cX0_laysFar 103 = .ok (.iconst 0, 1) := dk_3 (dk_at dksX0_laysFar_4 11 rfl rfl)
theorem dX0_laysFar_104 : decode cX0_laysFar 104 = .ok (.istore_n 3, 1) := dk_62 (dk_at dksX0_laysFar_4 12 rfl rfl)
theorem dX0_laysFar_105 : decode cX0_laysFar 105 = .ok (.iload_n 3, 1) := dk_29 (dk_at dksX0_laysFar_4 13 rfl rfl)
theorem dX0_laysFar_106 : decode cX0_laysFar 106 = .ok (.aload_n 0, 1) := dk_42 (dk_at dksX0_laysFar_4 14 rfl rfl)
theorem dX0_laysFar_107 : decode cX0_laysFar 107 = .ok (.getfield 20, 3) := dk_180 0 20 (dk_at dksX0_laysFar_4 15 rfl rfl)
theorem dX0_laysFar_110 : decode cX0_laysFar 110 = .ok (.getfield 151, 3) := dk_180 0 151 (dk_at dksX0_laysFar_4 18 rfl rfl)
theorem dX0_laysFar_113 : decode cX0_laysFar 113 = .ok (.if_icmp .ge 45, 3) := dk_162 0 45 (dk_at dksX0_laysFar_4 21 rfl rfl)
theorem dX0_laysFar_116 : decode cX0_laysFar 116 = .ok (.aload_n 0, 1) := dk_42 (dk_at dksX0_laysFar_5 0 rfl rfl)
theorem dX0_laysFar_117 : decode cX0_laysFar 117 = .ok (.getfield 40, 3) := dk_180 0 40 (dk_at dksX0_laysFar_5 1 rfl rfl)
theorem dX0_laysFar_120 : decode cX0_laysFar 120 = .ok (.iload_n 2, 1) := dk_28 (dk_at dksX0_laysFar_5 4 rfl rfl)
theorem dX0_laysFar_121 : decode cX0_laysFar 121 = .ok (.aaload, 1) := dk_50 (dk_at dksX0_laysFar_5 5 rfl rfl)
theorem dX0_laysFar_122 : decode cX0_laysFar 122 = .ok (.iload_n 3, 1) := dk_29 (dk_at dksX0_laysFar_5 6 rfl rfl)
theorem dX0_laysFar_123 : decode cX0_laysFar 123 = .ok (.aload_n 0, 1) := dk_42 (dk_at dksX0_laysFar_5 7 rfl rfl)
theorem dX0_laysFar_124 : decode cX0_laysFar 124 = .ok (.getfield 40, 3) := dk_180 0 40 (dk_at dksX0_laysFar_5 8 rfl rfl)
theorem dX0_laysFar_127 : decode cX0_laysFar 127 = .ok (.iload_n 2, 1) := dk_28 (dk_at dksX0_laysFar_5 11 rfl rfl)
theorem dX0_laysFar_128 : decode cX0_laysFar 128 = .ok (.aaload, 1) := dk_50 (dk_at dksX0_laysFar_5 12 rfl rfl)
theorem dX0_laysFar_129 : decode cX0_laysFar 129 = .ok (.iload_n 3, 1) := dk_29 (dk_at dksX0_laysFar_5 13 rfl rfl)
theorem dX0_laysFar_130 : decode cX0_laysFar 130 = .ok (.iaload, 1) := dk_46 (dk_at dksX0_laysFar_5 14 rfl rfl)
theorem dX0_laysFar_131 : decode cX0_laysFar 131 = .ok (.aload_n 0, 1) := dk_42 (dk_at dksX0_laysFar_5 15 rfl rfl)
theorem dX0_laysFar_132 : decode cX0_laysFar 132 = .ok (.getfield 40, 3) := dk_180 0 40 (dk_at dksX0_laysFar_5 16 rfl rfl)
theorem dX0_laysFar_135 : decode cX0_laysFar 135 = .ok (.iload_n 2, 1) := dk_28 (dk_at dksX0_laysFar_5 19 rfl rfl)
theorem dX0_laysFar_136 : decode cX0_laysFar 136 = .ok (.aaload, 1) := dk_50 (dk_at dksX0_laysFar_5 20 rfl rfl)
theorem dX0_laysFar_137 : decode cX0_laysFar 137 = .ok (.iload_n 1, 1) := dk_27 (dk_at dksX0_laysFar_5 21 rfl rfl)
theorem dX0_laysFar_138 : decode cX0_laysFar 138 = .ok (.iaload, 1) := dk_46 (dk_at dksX0_laysFar_5 22 rfl rfl)
theorem dX0_laysFar_139 : decode cX0_laysFar 139 = .ok (.aload_n 0, 1) := dk_42 (dk_at dksX0_laysFar_5 23 rfl rfl)
theorem dX0_laysFar_140 : decode cX0_laysFar 140 = .ok (.getfield 40, 3) := dk_180 0 40 (dk_at dksX0_laysFar_6 0 rfl rfl)
theorem dX0_laysFar_143 : decode cX0_laysFar 143 = .ok (.iload_n 1, 1) := dk_27 (dk_at dksX0_laysFar_6 3 rfl rfl)
theorem dX0_laysFar_144 : decode cX0_laysFar 144 = .ok (.aaload, 1) := dk_50 (dk_at dksX0_laysFar_6 4 rfl rfl)
theorem dX0_laysFar_145 : decode cX0_laysFar 145 = .ok (.iload_n 3, 1) := dk_29 (dk_at dksX0_laysFar_6 5 rfl rfl)
theorem dX0_laysFar_146 : decode cX0_laysFar 146 = .ok (.iaload, 1) := dk_46 (dk_at dksX0_laysFar_6 6 rfl rfl)
theorem dX0_laysFar_147 : decode cX0_laysFar 147 = .ok (.iadd, 1) := dk_96 (dk_at dksX0_laysFar_6 7 rfl rfl)
theorem dX0_laysFar_148 : decode cX0_laysFar 148 = .ok (.invokestatic 62, 3) := dk_184 0 62 (dk_at dksX0_laysFar_6 8 rfl rfl)
theorem dX0_laysFar_151 : decode cX0_laysFar 151 = .ok (.iastore, 1) := dk_79 (dk_at dksX0_laysFar_6 11 rfl rfl)
theorem dX0_laysFar_152 : decode cX0_laysFar 152 = .ok (.iinc 3 1, 3) := dk_132 3 1 (dk_at dksX0_laysFar_6 12 rfl rfl)
theorem dX0_laysFar_155 : decode cX0_laysFar 155 = .ok (.goto (-50), 3) := dk_167 255 206 (dk_at dksX0_laysFar_6 15 rfl rfl)
theorem dX0_laysFar_158 : decode cX0_laysFar 158 = .ok (.iinc 2 1, 3) := dk_132 2 1 (dk_at dksX0_laysFar_6 18 rfl rfl)
theorem dX0_laysFar_161 : decode cX0_laysFar 161 = .ok (.goto (-69), 3) := dk_167 255 187 (dk_at dksX0_laysFar_6 21 rfl rfl)
theorem dX0_laysFar_164 : decode cX0_laysFar 164 = .ok (.iinc 1 1, 3) := dk_132 1 1 (dk_at dksX0_laysFar_7 0 rfl rfl)
theorem dX0_laysFar_167 : decode cX0_laysFar 167 = .ok (.goto (-88), 3) := dk_167 255 168 (dk_at dksX0_laysFar_7 3 rfl rfl)
theorem dX0_laysFar_170 : decode cX0_laysFar 170 = .ok (.return_, 1) := dk_177 (dk_at dksX0_laysFar_7 6 rfl rfl)
abbrev cX0_laysWalks : ByteArray := prog_1_method_32_code
def yX0_laysWalks : MethodName := ⟨RX0, "laysWalks", "(II)V"⟩
def dkwX0_laysWalks_7 : List UInt8 := [167, 255, 101, 132, 3, 1, 167, 255, 85, 177]
abbrev dktX0_laysWalks_7 : List UInt8 := dkwX0_laysWalks_7 ++ []
def dkwX0_laysWalks_6 : List UInt8 := [46, 50, 42, 180, 0, 46, 21, 4, 46, 46, 96, 184, 0, 62, 79, 132, 6, 1, 167, 255, 184, 132, 4, 1]
abbrev dktX0_laysWalks_6 : List UInt8 := dkwX0_laysWalks_6 ++ dktX0_laysWalks_7
def dkwX0_laysWalks_5 : List UInt8 := [50, 21, 4, 46, 42, 180, 0, 43, 21, 5, 50, 21, 6, 46, 42, 180, 0, 40, 42, 180, 0, 46, 21, 6]
abbrev dktX0_laysWalks_5 : List UInt8 := dkwX0_laysWalks_5 ++ dktX0_laysWalks_6
def dkwX0_laysWalks_4 : List UInt8 := [21, 5, 21, 6, 122, 4, 126, 4, 160, 0, 55, 42, 180, 0, 43, 29, 50, 21, 4, 42, 180, 0, 43, 29]
abbrev dktX0_laysWalks_4 : List UInt8 := dkwX0_laysWalks_4 ++ dktX0_laysWalks_5
def dkwX0_laysWalks_3 : List UInt8 := [27, 50, 42, 180, 0, 46, 21, 4, 46, 46, 184, 0, 62, 79, 3, 54, 6, 21, 6, 28, 162, 0, 72]
abbrev dktX0_laysWalks_3 : List UInt8 := dkwX0_laysWalks_3 ++ dktX0_laysWalks_4
def dkwX0_laysWalks_2 : List UInt8 := [130, 126, 54, 5, 21, 5, 154, 0, 32, 42, 180, 0, 43, 29, 50, 21, 4, 19, 1, 22, 42, 180, 0, 40]
abbrev dktX0_laysWalks_2 : List UInt8 := dkwX0_laysWalks_2 ++ dktX0_laysWalks_3
def dkwX0_laysWalks_1 : List UInt8 := [21, 4, 19, 1, 22, 79, 29, 21, 4, 122, 4, 126, 154, 0, 6, 167, 0, 125, 29, 4, 21, 4, 120, 2]
abbrev dktX0_laysWalks_1 : List UInt8 := dkwX0_laysWalks_1 ++ dktX0_laysWalks_2
def dkwX0_laysWalks_0 : List UInt8 := [4, 62, 29, 4, 28, 120, 162, 0, 170, 3, 54, 4, 21, 4, 28, 162, 0, 155, 42, 180, 0, 43, 29, 50]
abbrev dktX0_laysWalks_0 : List UInt8 := dkwX0_laysWalks_0 ++ dktX0_laysWalks_1
theorem dksX0_laysWalks_0 : cX0_laysWalks.data.toList.drop 0 = dktX0_laysWalks_0 := by decide +kernel
theorem dksX0_laysWalks_1 : cX0_laysWalks.data.toList.drop 24 = dktX0_laysWalks_1 := dk_seg dksX0_laysWalks_0 24 rfl rfl
theorem dksX0_laysWalks_2 : cX0_laysWalks.data.toList.drop 48 = dktX0_laysWalks_2 := dk_seg dksX0_laysWalks_1 24 rfl rfl
theorem dksX0_laysWalks_3 : cX0_laysWalks.data.toList.drop 72 = dktX0_laysWalks_3 := dk_seg dksX0_laysWalks_2 24 rfl rfl
theorem dksX0_laysWalks_4 : cX0_laysWalks.data.toList.drop 95 = dktX0_laysWalks_4 := dk_seg dksX0_laysWalks_3 23 rfl rfl
theorem dksX0_laysWalks_5 : cX0_laysWalks.data.toList.drop 119 = dktX0_laysWalks_5 := dk_seg dksX0_laysWalks_4 24 rfl rfl
theorem dksX0_laysWalks_6 : cX0_laysWalks.data.toList.drop 143 = dktX0_laysWalks_6 := dk_seg dksX0_laysWalks_5 24 rfl rfl
theorem dksX0_laysWalks_7 : cX0_laysWalks.data.toList.drop 167 = dktX0_laysWalks_7 := dk_seg dksX0_laysWalks_6 24 rfl rfl
theorem dX0_laysWalks_0 : decode cX0_laysWalks 0 = .ok (.iconst 1, 1) := dk_4 (dk_at dksX0_laysWalks_0 0 rfl rfl)
theorem dX0_laysWalks_1 : decode cX0_laysWalks 1 = .ok (.istore_n 3, 1) := dk_62 (dk_at dksX0_laysWalks_0 1 rfl rfl)
theorem dX0_laysWalks_2 : decode cX0_laysWalks 2 = .ok (.iload_n 3, 1) := dk_29 (dk_at dksX0_laysWalks_0 2 rfl rfl)
theorem dX0_laysWalks_3 : decode cX0_laysWalks 3 = .ok (.iconst 1, 1) := dk_4 (dk_at dksX0_laysWalks_0 3 rfl rfl)
theorem dX0_laysWalks_4 : decode cX0_laysWalks 4 = .ok (.iload_n 2, 1) := dk_28 (dk_at dksX0_laysWalks_0 4 rfl rfl)
theorem dX0_laysWalks_5 : decode cX0_laysWalks 5 = .ok (.ishl, 1) := dk_120 (dk_at dksX0_laysWalks_0 5 rfl rfl)
theorem dX0_laysWalks_6 : decode cX0_laysWalks 6 = .ok (.if_icmp .ge 170, 3) := dk_162 0 170 (dk_at dksX0_laysWalks_0 6 rfl rfl)
theorem dX0_laysWalks_9 : decode cX0_laysWalks 9 = .ok (.iconst 0, 1) := dk_3 (dk_at dksX0_laysWalks_0 9 rfl rfl)
theorem dX0_laysWalks_10 : decode cX0_laysWalks 10 = .ok (.istore 4, 2) := dk_54 4 (dk_at dksX0_laysWalks_0 10 rfl rfl)
theorem dX0_laysWalks_12 : decode cX0_laysWalks 12 = .ok (.iload 4, 2) := dk_21 4 (dk_at dksX0_laysWalks_0 12 rfl rfl)
theorem dX0_laysWalks_14 : decode cX0_laysWalks 14 = .ok (.iload_n 2, 1) := dk_28 (dk_at dksX0_laysWalks_0 14 rfl rfl)
theorem dX0_laysWalks_15 : decode cX0_laysWalks 15 = .ok (.if_icmp .ge 155, 3) := dk_162 0 155 (dk_at dksX0_laysWalks_0 15 rfl rfl)
theorem dX0_laysWalks_18 : decode cX0_laysWalks 18 = .ok (.aload_n 0, 1) := dk_42 (dk_at dksX0_laysWalks_0 18 rfl rfl)
theorem dX0_laysWalks_19 : decode cX0_laysWalks 19 = .ok (.getfield 43, 3) := dk_180 0 43 (dk_at dksX0_laysWalks_0 19 rfl rfl)
theorem dX0_laysWalks_22 : decode cX0_laysWalks 22 = .ok (.iload_n 3, 1) := dk_29 (dk_at dksX0_laysWalks_0 22 rfl rfl)
theorem dX0_laysWalks_23 : decode cX0_laysWalks 23 = .ok (.aaload, 1) := dk_50 (dk_at dksX0_laysWalks_0 23 rfl rfl)
theorem dX0_laysWalks_24 : decode cX0_laysWalks 24 = .ok (.iload 4, 2) := dk_21 4 (dk_at dksX0_laysWalks_1 0 rfl rfl)
theorem dX0_laysWalks_26 : decode cX0_laysWalks 26 = .ok (.ldc_w 278, 3) := dk_19 1 22 (dk_at dksX0_laysWalks_1 2 rfl rfl)
theorem dX0_laysWalks_29 : decode cX0_laysWalks 29 = .ok (.iastore, 1) := dk_79 (dk_at dksX0_laysWalks_1 5 rfl rfl)
theorem dX0_laysWalks_30 : decode cX0_laysWalks 30 = .ok (.iload_n 3, 1) := dk_29 (dk_at dksX0_laysWalks_1 6 rfl rfl)
theorem dX0_laysWalks_31 : decode cX0_laysWalks 31 = .ok (.iload 4, 2) := dk_21 4 (dk_at dksX0_laysWalks_1 7 rfl rfl)
theorem dX0_laysWalks_33 : decode cX0_laysWalks 33 = .ok (.ishr, 1) := dk_122 (dk_at dksX0_laysWalks_1 9 rfl rfl)
theorem dX0_laysWalks_34 : decode cX0_laysWalks 34 = .ok (.iconst 1, 1) := dk_4 (dk_at dksX0_laysWalks_1 10 rfl rfl)
theorem dX0_laysWalks_35 : decode cX0_laysWalks 35 = .ok (.iand, 1) := dk_126 (dk_at dksX0_laysWalks_1 11 rfl rfl)
theorem dX0_laysWalks_36 : decode cX0_laysWalks 36 = .ok (.ifCond .ne 6, 3) := dk_154 0 6 (dk_at dksX0_laysWalks_1 12 rfl rfl)
theorem dX0_laysWalks_39 : decode cX0_laysWalks 39 = .ok (.goto 125, 3) := dk_167 0 125 (dk_at dksX0_laysWalks_1 15 rfl rfl)
theorem dX0_laysWalks_42 : decode cX0_laysWalks 42 = .ok (.iload_n 3, 1) := dk_29 (dk_at dksX0_laysWalks_1 18 rfl rfl)
theorem dX0_laysWalks_43 : decode cX0_laysWalks 43 = .ok (.iconst 1, 1) := dk_4 (dk_at dksX0_laysWalks_1 19 rfl rfl)
theorem dX0_laysWalks_44 : decode cX0_laysWalks 44 = .ok (.iload 4, 2) := dk_21 4 (dk_at dksX0_laysWalks_1 20 rfl rfl)
theorem dX0_laysWalks_46 : decode cX0_laysWalks 46 = .ok (.ishl, 1) := dk_120 (dk_at dksX0_laysWalks_1 22 rfl rfl)
theorem dX0_laysWalks_47 : decode cX0_laysWalks 47 = .ok (.iconst (-1), 1) := dk_2 (dk_at dksX0_laysWalks_1 23 rfl rfl)
theorem dX0_laysWalks_48 : decode cX0_laysWalks 48 = .ok (.ixor, 1) := dk_130 (dk_at dksX0_laysWalks_2 0 rfl rfl)
theorem dX0_laysWalks_49 : decode cX0_laysWalks 49 = .ok (.iand, 1) := dk_126 (dk_at dksX0_laysWalks_2 1 rfl rfl)
theorem dX0_laysWalks_50 : decode cX0_laysWalks 50 = .ok (.istore 5, 2) := dk_54 5 (dk_at dksX0_laysWalks_2 2 rfl rfl)
theorem dX0_laysWalks_52 : decode cX0_laysWalks 52 = .ok (.iload 5, 2) := dk_21 5 (dk_at dksX0_laysWalks_2 4 rfl rfl)
theorem dX0_laysWalks_54 : decode cX0_laysWalks 54 = .ok (.ifCond .ne 32, 3) := dk_154 0 32 (dk_at dksX0_laysWalks_2 6 rfl rfl)
theorem dX0_laysWalks_57 : decode cX0_laysWalks 57 = .ok (.aload_n 0, 1) := dk_42 (dk_at dksX0_laysWalks_2 9 rfl rfl)
theorem dX0_laysWalks_58 : decode cX0_laysWalks 58 = .ok (.getfield 43, 3) := dk_180 0 43 (dk_at dksX0_laysWalks_2 10 rfl rfl)
theorem dX0_laysWalks_61 : decode cX0_laysWalks 61 = .ok (.iload_n 3, 1) := dk_29 (dk_at dksX0_laysWalks_2 13 rfl rfl)
theorem dX0_laysWalks_62 : decode cX0_laysWalks 62 = .ok (.aaload, 1) := dk_50 (dk_at dksX0_laysWalks_2 14 rfl rfl)
theorem dX0_laysWalks_63 : decode cX0_laysWalks 63 = .ok (.iload 4, 2) := dk_21 4 (dk_at dksX0_laysWalks_2 15 rfl rfl)
theorem dX0_laysWalks_65 : decode cX0_laysWalks 65 = .ok (.ldc_w 278, 3) := dk_19 1 22 (dk_at dksX0_laysWalks_2 17 rfl rfl)
theorem dX0_laysWalks_68 : decode cX0_laysWalks 68 = .ok (.aload_n 0, 1) := dk_42 (dk_at dksX0_laysWalks_2 20 rfl rfl)
theorem dX0_laysWalks_69 : decode cX0_laysWalks 69 = .ok (.getfield 40, 3) := dk_180 0 40 (dk_at dksX0_laysWalks_2 21 rfl rfl)
theorem dX0_laysWalks_72 : decode cX0_laysWalks 72 = .ok (.iload_n 1, 1) := dk_27 (dk_at dksX0_laysWalks_3 0 rfl rfl)
theorem dX0_laysWalks_73 : decode cX0_laysWalks 73 = .ok (.aaload, 1) := dk_50 (dk_at dksX0_laysWalks_3 1 rfl rfl)
theorem dX0_laysWalks_74 : decode cX0_laysWalks 74 = .ok (.aload_n 0, 1) := dk_42 (dk_at dksX0_laysWalks_3 2 rfl rfl)
theorem dX0_laysWalks_75 : decode cX0_laysWalks 75 = .ok (.getfield 46, 3) := dk_180 0 46 (dk_at dksX0_laysWalks_3 3 rfl rfl)
theorem dX0_laysWalks_78 : decode cX0_laysWalks 78 = .ok (.iload 4, 2) := dk_21 4 (dk_at dksX0_laysWalks_3 6 rfl rfl)
theorem dX0_laysWalks_80 : decode cX0_laysWalks 80 = .ok (.iaload, 1) := dk_46 (dk_at dksX0_laysWalks_3 8 rfl rfl)
theorem dX0_laysWalks_81 : decode cX0_laysWalks 81 = .ok (.iaload, 1) := dk_46 (dk_at dksX0_laysWalks_3 9 rfl rfl)
theorem dX0_laysWalks_82 : decode cX0_laysWalks 82 = .ok (.invokestatic 62, 3) := dk_184 0 62 (dk_at dksX0_laysWalks_3 10 rfl rfl)
theorem dX0_laysWalks_85 : decode cX0_laysWalks 85 = .ok (.iastore, 1) := dk_79 (dk_at dksX0_laysWalks_3 13 rfl rfl)
theorem dX0_laysWalks_86 : decode cX0_laysWalks 86 = .ok (.iconst 0, 1) := dk_3 (dk_at dksX0_laysWalks_3 14 rfl rfl)
theorem dX0_laysWalks_87 : decode cX0_laysWalks 87 = .ok (.istore 6, 2) := dk_54 6 (dk_at dksX0_laysWalks_3 15 rfl rfl)
theorem dX0_laysWalks_89 : decode cX0_laysWalks 89 = .ok (.iload 6, 2) := dk_21 6 (dk_at dksX0_laysWalks_3 17 rfl rfl)
theorem dX0_laysWalks_91 : decode cX0_laysWalks 91 = .ok (.iload_n 2, 1) := dk_28 (dk_at dksX0_laysWalks_3 19 rfl rfl)
theorem dX0_laysWalks_92 : decode cX0_laysWalks 92 = .ok (.if_icmp .ge 72, 3) := dk_162 0 72 (dk_at dksX0_laysWalks_3 20 rfl rfl)
theorem dX0_laysWalks_95 : decode cX0_laysWalks 95 = .ok (.iload 5, 2) := dk_21 5 (dk_at dksX0_laysWalks_4 0 rfl rfl)
theorem dX0_laysWalks_97 : decode cX0_laysWalks 97 = .ok (.iload 6, 2) := dk_21 6 (dk_at dksX0_laysWalks_4 2 rfl rfl)
theorem dX0_laysWalks_99 : decode cX0_laysWalks 99 = .ok (.ishr, 1) := dk_122 (dk_at dksX0_laysWalks_4 4 rfl rfl)
theorem dX0_laysWalks_100 : decode cX0_laysWalks 100 = .ok (.iconst 1, 1) := dk_4 (dk_at dksX0_laysWalks_4 5 rfl rfl)
theorem dX0_laysWalks_101 : decode cX0_laysWalks 101 = .ok (.iand, 1) := dk_126 (dk_at dksX0_laysWalks_4 6 rfl rfl)
theorem dX0_laysWalks_102 : decode cX0_laysWalks 102 = .ok (.iconst 1, 1) := dk_4 (dk_at dksX0_laysWalks_4 7 rfl rfl)
theorem dX0_laysWalks_103 : decode cX0_laysWalks 103 = .ok (.if_icmp .ne 55, 3) := dk_160 0 55 (dk_at dksX0_laysWalks_4 8 rfl rfl)
theorem dX0_laysWalks_106 : decode cX0_laysWalks 106 = .ok (.aload_n 0, 1) := dk_42 (dk_at dksX0_laysWalks_4 11 rfl rfl)
theorem dX0_laysWalks_107 : decode cX0_laysWalks 107 = .ok (.getfield 43, 3) := dk_180 0 43 (dk_at dksX0_laysWalks_4 12 rfl rfl)
theorem dX0_laysWalks_110 : decode cX0_laysWalks 110 = .ok (.iload_n 3, 1) := dk_29 (dk_at dksX0_laysWalks_4 15 rfl rfl)
theorem dX0_laysWalks_111 : decode cX0_laysWalks 111 = .ok (.aaload, 1) := dk_50 (dk_at dksX0_laysWalks_4 16 rfl rfl)
theorem dX0_laysWalks_112 : decode cX0_laysWalks 112 = .ok (.iload 4, 2) := dk_21 4 (dk_at dksX0_laysWalks_4 17 rfl rfl)
theorem dX0_laysWalks_114 : decode cX0_laysWalks 114 = .ok (.aload_n 0, 1) := dk_42 (dk_at dksX0_laysWalks_4 19 rfl rfl)
theorem dX0_laysWalks_115 : decode cX0_laysWalks 115 = .ok (.getfield 43, 3) := dk_180 0 43 (dk_at dksX0_laysWalks_4 20 rfl rfl)
theorem dX0_laysWalks_118 : decode cX0_laysWalks 118 = .ok (.iload_n 3, 1) := dk_29 (dk_at dksX0_laysWalks_4 23 rfl rfl)
theorem dX0_laysWalks_119 : decode cX0_laysWalks 119 = .ok (.aaload, 1) := dk_50 (dk_at dksX0_laysWalks_5 0 rfl rfl)
theorem dX0_laysWalks_120 : decode cX0_laysWalks 120 = .ok (.iload 4, 2) := dk_21 4 (dk_at dksX0_laysWalks_5 1 rfl rfl)
theorem dX0_laysWalks_122 : decode cX0_laysWalks 122 = .ok (.iaload, 1) := dk_46 (dk_at dksX0_laysWalks_5 3 rfl rfl)
theorem dX0_laysWalks_123 : decode cX0_laysWalks 123 = .ok (.aload_n 0, 1) := dk_42 (dk_at dksX0_laysWalks_5 4 rfl rfl)
theorem dX0_laysWalks_124 : decode cX0_laysWalks 124 = .ok (.getfield 43, 3) := dk_180 0 43 (dk_at dksX0_laysWalks_5 5 rfl rfl)
theorem dX0_laysWalks_127 : decode cX0_laysWalks 127 = .ok (.iload 5, 2) := dk_21 5 (dk_at dksX0_laysWalks_5 8 rfl rfl)
theorem dX0_laysWalks_129 : decode cX0_laysWalks 129 = .ok (.aaload, 1) := dk_50 (dk_at dksX0_laysWalks_5 10 rfl rfl)
theorem dX0_laysWalks_130 : decode cX0_laysWalks 130 = .ok (.iload 6, 2) := dk_21 6 (dk_at dksX0_laysWalks_5 11 rfl rfl)
theorem dX0_laysWalks_132 : decode cX0_laysWalks 132 = .ok (.iaload, 1) := dk_46 (dk_at dksX0_laysWalks_5 13 rfl rfl)
theorem dX0_laysWalks_133 : decode cX0_laysWalks 133 = .ok (.aload_n 0, 1) := dk_42 (dk_at dksX0_laysWalks_5 14 rfl rfl)
theorem dX0_laysWalks_134 : decode cX0_laysWalks 134 = .ok (.getfield 40, 3) := dk_180 0 40 (dk_at dksX0_laysWalks_5 15 rfl rfl)
theorem dX0_laysWalks_137 : decode cX0_laysWalks 137 = .ok (.aload_n 0, 1) := dk_42 (dk_at dksX0_laysWalks_5 18 rfl rfl)
theorem dX0_laysWalks_138 : decode cX0_laysWalks 138 = .ok (.getfield 46, 3) := dk_180 0 46 (dk_at dksX0_laysWalks_5 19 rfl rfl)
theorem dX0_laysWalks_141 : decode cX0_laysWalks 141 = .ok (.iload 6, 2) := dk_21 6 (dk_at dksX0_laysWalks_5 22 rfl rfl)
theorem dX0_laysWalks_143 : decode cX0_laysWalks 143 = .ok (.iaload, 1) := dk_46 (dk_at dksX0_laysWalks_6 0 rfl rfl)
theorem dX0_laysWalks_144 : decode cX0_laysWalks 144 = .ok (.aaload, 1) := dk_50 (dk_at dksX0_laysWalks_6 1 rfl rfl)
theorem dX0_laysWalks_145 : decode cX0_laysWalks 145 = .ok (.aload_n 0, 1) := dk_42 (dk_at dksX0_laysWalks_6 2 rfl rfl)
theorem dX0_laysWalks_146 : decode cX0_laysWalks 146 = .ok (.getfield 46, 3) := dk_180 0 46 (dk_at dksX0_laysWalks_6 3 rfl rfl)
theorem dX0_laysWalks_149 : decode cX0_laysWalks 149 = .ok (.iload 4, 2) := dk_21 4 (dk_at dksX0_laysWalks_6 6 rfl rfl)
theorem dX0_laysWalks_151 : decode cX0_laysWalks 151 = .ok (.iaload, 1) := dk_46 (dk_at dksX0_laysWalks_6 8 rfl rfl)
theorem dX0_laysWalks_152 : decode cX0_laysWalks 152 = .ok (.iaload, 1) := dk_46 (dk_at dksX0_laysWalks_6 9 rfl rfl)
theorem dX0_laysWalks_153 : decode cX0_laysWalks 153 = .ok (.iadd, 1) := dk_96 (dk_at dksX0_laysWalks_6 10 rfl rfl)
theorem dX0_laysWalks_154 : decode cX0_laysWalks 154 = .ok (.invokestatic 62, 3) := dk_184 0 62 (dk_at dksX0_laysWalks_6 11 rfl rfl)
theorem dX0_laysWalks_157 : decode cX0_laysWalks 157 = .ok (.iastore, 1) := dk_79 (dk_at dksX0_laysWalks_6 14 rfl rfl)
theorem dX0_laysWalks_158 : decode cX0_laysWalks 158 = .ok (.iinc 6 1, 3) := dk_132 6 1 (dk_at dksX0_laysWalks_6 15 rfl rfl)
theorem dX0_laysWalks_161 : decode cX0_laysWalks 161 = .ok (.goto (-72), 3) := dk_167 255 184 (dk_at dksX0_laysWalks_6 18 rfl rfl)
theorem dX0_laysWalks_164 : decode cX0_laysWalks 164 = .ok (.iinc 4 1, 3) := dk_132 4 1 (dk_at dksX0_laysWalks_6 21 rfl rfl)
theorem dX0_laysWalks_167 : decode cX0_laysWalks 167 = .ok (.goto (-155), 3) := dk_167 255 101 (dk_at dksX0_laysWalks_7 0 rfl rfl)
theorem dX0_laysWalks_170 : decode cX0_laysWalks 170 = .ok (.iinc 3 1, 3) := dk_132 3 1 (dk_at dksX0_laysWalks_7 3 rfl rfl)
theorem dX0_laysWalks_173 : decode cX0_laysWalks 173 = .ok (.goto (-171), 3) := dk_167 255 85 (dk_at dksX0_laysWalks_7 6 rfl rfl)
theorem dX0_laysWalks_176 : decode cX0_laysWalks 176 = .ok (.return_, 1) := dk_177 (dk_at dksX0_laysWalks_7 9 rfl rfl)
abbrev cX0_box : ByteArray := prog_1_method_34_code
def yX0_box : MethodName := ⟨RX0, "box", "(I)I"⟩
def dkwX0_box_4 : List UInt8 := [167, 255, 185, 28, 2, 159, 0, 7, 27, 154, 0, 7, 28, 167, 0, 4, 29, 172]
abbrev dktX0_box_4 : List UInt8 := dkwX0_box_4 ++ []
def dkwX0_box_3 : List UInt8 := [132, 6, 1, 167, 255, 224, 21, 5, 29, 161, 0, 6, 167, 0, 9, 21, 4, 61, 21, 5, 62, 132, 4, 1]
abbrev dktX0_box_3 : List UInt8 := dkwX0_box_3 ++ dktX0_box_4
def dkwX0_box_2 : List UInt8 := [180, 0, 151, 162, 0, 26, 21, 5, 42, 180, 0, 40, 21, 4, 50, 21, 6, 46, 184, 0, 68, 54, 5]
abbrev dktX0_box_2 : List UInt8 := dkwX0_box_2 ++ dktX0_box_3
def dkwX0_box_1 : List UInt8 := [21, 4, 42, 180, 0, 20, 180, 0, 151, 162, 0, 65, 3, 54, 5, 3, 54, 6, 21, 6, 42, 180, 0, 20]
abbrev dktX0_box_1 : List UInt8 := dkwX0_box_1 ++ dktX0_box_2
def dkwX0_box_0 : List UInt8 := [27, 3, 4, 184, 0, 78, 154, 0, 5, 2, 172, 42, 182, 1, 26, 2, 61, 19, 1, 22, 62, 3, 54, 4]
abbrev dktX0_box_0 : List UInt8 := dkwX0_box_0 ++ dktX0_box_1
theorem dksX0_box_0 : cX0_box.data.toList.drop 0 = dktX0_box_0 := by decide +kernel
theorem dksX0_box_1 : cX0_box.data.toList.drop 24 = dktX0_box_1 := dk_seg dksX0_box_0 24 rfl rfl
theorem dksX0_box_2 : cX0_box.data.toList.drop 48 = dktX0_box_2 := dk_seg dksX0_box_1 24 rfl rfl
theorem dksX0_box_3 : cX0_box.data.toList.drop 71 = dktX0_box_3 := dk_seg dksX0_box_2 23 rfl rfl
theorem dksX0_box_4 : cX0_box.data.toList.drop 95 = dktX0_box_4 := dk_seg dksX0_box_3 24 rfl rfl
theorem dX0_box_0 : decode cX0_box 0 = .ok (.iload_n 1, 1) := dk_27 (dk_at dksX0_box_0 0 rfl rfl)
theorem dX0_box_1 : decode cX0_box 1 = .ok (.iconst 0, 1) := dk_3 (dk_at dksX0_box_0 1 rfl rfl)
theorem dX0_box_2 : decode cX0_box 2 = .ok (.iconst 1, 1) := dk_4 (dk_at dksX0_box_0 2 rfl rfl)
theorem dX0_box_3 : decode cX0_box 3 = .ok (.invokestatic 78, 3) := dk_184 0 78 (dk_at dksX0_box_0 3 rfl rfl)
theorem dX0_box_6 : decode cX0_box 6 = .ok (.ifCond .ne 5, 3) := dk_154 0 5 (dk_at dksX0_box_0 6 rfl rfl)
theorem dX0_box_9 : decode cX0_box 9 = .ok (.iconst (-1), 1) := dk_2 (dk_at dksX0_box_0 9 rfl rfl)
theorem dX0_box_10 : decode cX0_box 10 = .ok (.ireturn, 1) := dk_172 (dk_at dksX0_box_0 10 rfl rfl)
theorem dX0_box_11 : decode cX0_box 11 = .ok (.aload_n 0, 1) := dk_42 (dk_at dksX0_box_0 11 rfl rfl)
theorem dX0_box_12 : decode cX0_box 12 = .ok (.invokevirtual 282, 3) := dk_182 1 26 (dk_at dksX0_box_0 12 rfl rfl)
theorem dX0_box_15 : decode cX0_box 15 = .ok (.iconst (-1), 1) := dk_2 (dk_at dksX0_box_0 15 rfl rfl)
theorem dX0_box_16 : decode cX0_box 16 = .ok (.istore_n 2, 1) := dk_61 (dk_at dksX0_box_0 16 rfl rfl)
theorem dX0_box_17 : decode cX0_box 17 = .ok (.ldc_w 278, 3) := dk_19 1 22 (dk_at dksX0_box_0 17 rfl rfl)
theorem dX0_box_20 : decode cX0_box 20 = .ok (.istore_n 3, 1) := dk_62 (dk_at dksX0_box_0 20 rfl rfl)
theorem dX0_box_21 : decode cX0_box 21 = .ok (.iconst 0, 1) := dk_3 (dk_at dksX0_box_0 21 rfl rfl)
theorem dX0_box_22 : decode cX0_box 22 = .ok (.istore 4, 2) := dk_54 4 (dk_at dksX0_box_0 22 rfl rfl)
theorem dX0_box_24 : decode cX0_box 24 = .ok (.iload 4, 2) := dk_21 4 (dk_at dksX0_box_1 0 rfl rfl)
theorem dX0_box_26 : decode cX0_box 26 = .ok (.aload_n 0, 1) := dk_42 (dk_at dksX0_box_1 2 rfl rfl)
theorem dX0_box_27 : decode cX0_box 27 = .ok (.getfield 20, 3) := dk_180 0 20 (dk_at dksX0_box_1 3 rfl rfl)
theorem dX0_box_30 : decode cX0_box 30 = .ok (.getfield 151, 3) := dk_180 0 151 (dk_at dksX0_box_1 6 rfl rfl)
theorem dX0_box_33 : decode cX0_box 33 = .ok (.if_icmp .ge 65, 3) := dk_162 0 65 (dk_at dksX0_box_1 9 rfl rfl)
theorem dX0_box_36 : decode cX0_box 36 = .ok (.iconst 0, 1) := dk_3 (dk_at dksX0_box_1 12 rfl rfl)
theorem dX0_box_37 : decode cX0_box 37 = .ok (.istore 5, 2) := dk_54 5 (dk_at dksX0_box_1 13 rfl rfl)
theorem dX0_box_39 : decode cX0_box 39 = .ok (.iconst 0, 1) := dk_3 (dk_at dksX0_box_1 15 rfl rfl)
theorem dX0_box_40 : decode cX0_box 40 = .ok (.istore 6, 2) := dk_54 6 (dk_at dksX0_box_1 16 rfl rfl)
theorem dX0_box_42 : decode cX0_box 42 = .ok (.iload 6, 2) := dk_21 6 (dk_at dksX0_box_1 18 rfl rfl)
theorem dX0_box_44 : decode cX0_box 44 = .ok (.aload_n 0, 1) := dk_42 (dk_at dksX0_box_1 20 rfl rfl)
theorem dX0_box_45 : decode cX0_box 45 = .ok (.getfield 20, 3) := dk_180 0 20 (dk_at dksX0_box_1 21 rfl rfl)
theorem dX0_box_48 : decode cX0_box 48 = .ok (.getfield 151, 3) := dk_180 0 151 (dk_at dksX0_box_2 0 rfl rfl)
theorem dX0_box_51 : decode cX0_box 51 = .ok (.if_icmp .ge 26, 3) := dk_162 0 26 (dk_at dksX0_box_2 3 rfl rfl)
theorem dX0_box_54 : decode cX0_box 54 = .ok (.iload 5, 2) := dk_21 5 (dk_at dksX0_box_2 6 rfl rfl)
theorem dX0_box_56 : decode cX0_box 56 = .ok (.aload_n 0, 1) := dk_42 (dk_at dksX0_box_2 8 rfl rfl)
theorem dX0_box_57 : decode cX0_box 57 = .ok (.getfield 40, 3) := dk_180 0 40 (dk_at dksX0_box_2 9 rfl rfl)
theorem dX0_box_60 : decode cX0_box 60 = .ok (.iload 4, 2) := dk_21 4 (dk_at dksX0_box_2 12 rfl rfl)
theorem dX0_box_62 : decode cX0_box 62 = .ok (.aaload, 1) := dk_50 (dk_at dksX0_box_2 14 rfl rfl)
theorem dX0_box_63 : decode cX0_box 63 = .ok (.iload 6, 2) := dk_21 6 (dk_at dksX0_box_2 15 rfl rfl)
theorem dX0_box_65 : decode cX0_box 65 = .ok (.iaload, 1) := dk_46 (dk_at dksX0_box_2 17 rfl rfl)
theorem dX0_box_66 : decode cX0_box 66 = .ok (.invokestatic 68, 3) := dk_184 0 68 (dk_at dksX0_box_2 18 rfl rfl)
theorem dX0_box_69 : decode cX0_box 69 = .ok (.istore 5, 2) := dk_54 5 (dk_at dksX0_box_2 21 rfl rfl)
theorem dX0_box_71 : decode cX0_box 71 = .ok (.iinc 6 1, 3) := dk_132 6 1 (dk_at dksX0_box_3 0 rfl rfl)
theorem dX0_box_74 : decode cX0_box 74 = .ok (.goto (-32), 3) := dk_167 255 224 (dk_at dksX0_box_3 3 rfl rfl)
theorem dX0_box_77 : decode cX0_box 77 = .ok (.iload 5, 2) := dk_21 5 (dk_at dksX0_box_3 6 rfl rfl)
theorem dX0_box_79 : decode cX0_box 79 = .ok (.iload_n 3, 1) := dk_29 (dk_at dksX0_box_3 8 rfl rfl)
theorem dX0_box_80 : decode cX0_box 80 = .ok (.if_icmp .lt 6, 3) := dk_161 0 6 (dk_at dksX0_box_3 9 rfl rfl)
theorem dX0_box_83 : decode cX0_box 83 = .ok (.goto 9, 3) := dk_167 0 9 (dk_at dksX0_box_3 12 rfl rfl)
theorem dX0_box_86 : decode cX0_box 86 = .ok (.iload 4, 2) := dk_21 4 (dk_at dksX0_box_3 15 rfl rfl)
theorem dX0_box_88 : decode cX0_box 88 = .ok (.istore_n 2, 1) := dk_61 (dk_at dksX0_box_3 17 rfl rfl)
theorem dX0_box_89 : decode cX0_box 89 = .ok (.iload 5, 2) := dk_21 5 (dk_at dksX0_box_3 18 rfl rfl)
theorem dX0_box_91 : decode cX0_box 91 = .ok (.istore_n 3, 1) := dk_62 (dk_at dksX0_box_3 20 rfl rfl)
theorem dX0_box_92 : decode cX0_box 92 = .ok (.iinc 4 1, 3) := dk_132 4 1 (dk_at dksX0_box_3 21 rfl rfl)
theorem dX0_box_95 : decode cX0_box 95 = .ok (.goto (-71), 3) := dk_167 255 185 (dk_at dksX0_box_4 0 rfl rfl)
theorem dX0_box_98 : decode cX0_box 98 = .ok (.iload_n 2, 1) := dk_28 (dk_at dksX0_box_4 3 rfl rfl)
theorem dX0_box_99 : decode cX0_box 99 = .ok (.iconst (-1), 1) := dk_2 (dk_at dksX0_box_4 4 rfl rfl)
theorem dX0_box_100 : decode cX0_box 100 = .ok (.if_icmp .eq 7, 3) := dk_159 0 7 (dk_at dksX0_box_4 5 rfl rfl)
theorem dX0_box_103 : decode cX0_box 103 = .ok (.iload_n 1, 1) := dk_27 (dk_at dksX0_box_4 8 rfl rfl)
theorem dX0_box_104 : decode cX0_box 104 = .ok (.ifCond .ne 7, 3) := dk_154 0 7 (dk_at dksX0_box_4 9 rfl rfl)
theorem dX0_box_107 : decode cX0_box 107 = .ok (.iload_n 2, 1) := dk_28 (dk_at dksX0_box_4 12 rfl rfl)
theorem dX0_box_108 : decode cX0_box 108 = .ok (.goto 4, 3) := dk_167 0 4 (dk_at dksX0_box_4 13 rfl rfl)
theorem dX0_box_111 : decode cX0_box 111 = .ok (.iload_n 3, 1) := dk_29 (dk_at dksX0_box_4 16 rfl rfl)
theorem dX0_box_112 : decode cX0_box 112 = .ok (.ireturn, 1) := dk_172 (dk_at dksX0_box_4 17 rfl rfl)
abbrev cX0_blow : ByteArray := prog_1_method_35_code
def yX0_blow : MethodName := ⟨RX0, "blow", "(I)I"⟩
def dkwX0_blow_1 : List UInt8 := [184, 0, 78, 153, 0, 19, 42, 180, 0, 20, 180, 1, 33, 27, 3, 3, 182, 1, 42, 167, 0, 4, 2, 172]
abbrev dktX0_blow_1 : List UInt8 := dkwX0_blow_1 ++ []
def dkwX0_blow_0 : List UInt8 := [27, 154, 0, 16, 42, 180, 0, 20, 180, 1, 33, 182, 1, 37, 167, 0, 31, 27, 16, 206, 16, 50]
abbrev dktX0_blow_0 : List UInt8 := dkwX0_blow_0 ++ dktX0_blow_1
theorem dksX0_blow_0 : cX0_blow.data.toList.drop 0 = dktX0_blow_0 := by decide +kernel
theorem dksX0_blow_1 : cX0_blow.data.toList.drop 22 = dktX0_blow_1 := dk_seg dksX0_blow_0 22 rfl rfl
theorem dX0_blow_0 : decode cX0_blow 0 = .ok (.iload_n 1, 1) := dk_27 (dk_at dksX0_blow_0 0 rfl rfl)
theorem dX0_blow_1 : decode cX0_blow 1 = .ok (.ifCond .ne 16, 3) := dk_154 0 16 (dk_at dksX0_blow_0 1 rfl rfl)
theorem dX0_blow_4 : decode cX0_blow 4 = .ok (.aload_n 0, 1) := dk_42 (dk_at dksX0_blow_0 4 rfl rfl)
theorem dX0_blow_5 : decode cX0_blow 5 = .ok (.getfield 20, 3) := dk_180 0 20 (dk_at dksX0_blow_0 5 rfl rfl)
theorem dX0_blow_8 : decode cX0_blow 8 = .ok (.getfield 289, 3) := dk_180 1 33 (dk_at dksX0_blow_0 8 rfl rfl)
theorem dX0_blow_11 : decode cX0_blow 11 = .ok (.invokevirtual 293, 3) := dk_182 1 37 (dk_at dksX0_blow_0 11 rfl rfl)
theorem dX0_blow_14 : decode cX0_blow 14 = .ok (.goto 31, 3) := dk_167 0 31 (dk_at dksX0_blow_0 14 rfl rfl)
theorem dX0_blow_17 : decode cX0_blow 17 = .ok (.iload_n 1, 1) := dk_27 (dk_at dksX0_blow_0 17 rfl rfl)
theorem dX0_blow_18 : decode cX0_blow 18 = .ok (.bipush (-50), 2) := dk_16 206 (dk_at dksX0_blow_0 18 rfl rfl)
theorem dX0_blow_20 : decode cX0_blow 20 = .ok (.bipush 50, 2) := dk_16 50 (dk_at dksX0_blow_0 20 rfl rfl)
theorem dX0_blow_22 : decode cX0_blow 22 = .ok (.invokestatic 78, 3) := dk_184 0 78 (dk_at dksX0_blow_1 0 rfl rfl)
theorem dX0_blow_25 : decode cX0_blow 25 = .ok (.ifCond .eq 19, 3) := dk_153 0 19 (dk_at dksX0_blow_1 3 rfl rfl)
theorem dX0_blow_28 : decode cX0_blow 28 = .ok (.aload_n 0, 1) := dk_42 (dk_at dksX0_blow_1 6 rfl rfl)
theorem dX0_blow_29 : decode cX0_blow 29 = .ok (.getfield 20, 3) := dk_180 0 20 (dk_at dksX0_blow_1 7 rfl rfl)
theorem dX0_blow_32 : decode cX0_blow 32 = .ok (.getfield 289, 3) := dk_180 1 33 (dk_at dksX0_blow_1 10 rfl rfl)
theorem dX0_blow_35 : decode cX0_blow 35 = .ok (.iload_n 1, 1) := dk_27 (dk_at dksX0_blow_1 13 rfl rfl)
theorem dX0_blow_36 : decode cX0_blow 36 = .ok (.iconst 0, 1) := dk_3 (dk_at dksX0_blow_1 14 rfl rfl)
theorem dX0_blow_37 : decode cX0_blow 37 = .ok (.iconst 0, 1) := dk_3 (dk_at dksX0_blow_1 15 rfl rfl)
theorem dX0_blow_38 : decode cX0_blow 38 = .ok (.invokevirtual 298, 3) := dk_182 1 42 (dk_at dksX0_blow_1 16 rfl rfl)
theorem dX0_blow_41 : decode cX0_blow 41 = .ok (.goto 4, 3) := dk_167 0 4 (dk_at dksX0_blow_1 19 rfl rfl)
theorem dX0_blow_44 : decode cX0_blow 44 = .ok (.iconst (-1), 1) := dk_2 (dk_at dksX0_blow_1 22 rfl rfl)
theorem dX0_blow_45 : decode cX0_blow 45 = .ok (.ireturn, 1) := dk_172 (dk_at dksX0_blow_1 23 rfl rfl)
abbrev cX0_bears : ByteArray := prog_1_method_37_code
def yX0_bears : MethodName := ⟨RX0, "bears", "(II)I"⟩
def dkwX0_bears_4 : List UInt8 := [46, 2, 159, 0, 6, 21, 4, 172, 132, 4, 1, 167, 255, 218, 2, 172]
abbrev dktX0_bears_4 : List UInt8 := dkwX0_bears_4 ++ []
def dkwX0_bears_3 : List UInt8 := [180, 0, 20, 180, 1, 33, 180, 1, 46, 162, 0, 29, 42, 27, 21, 4, 182, 1, 55, 42, 180, 0, 50, 29]
abbrev dktX0_bears_3 : List UInt8 := dkwX0_bears_3 ++ dktX0_bears_4
def dkwX0_bears_2 : List UInt8 := [42, 180, 0, 50, 29, 46, 2, 160, 0, 10, 42, 180, 0, 50, 29, 46, 172, 3, 54, 4, 21, 4, 42]
abbrev dktX0_bears_2 : List UInt8 := dkwX0_bears_2 ++ dktX0_bears_3
def dkwX0_bears_1 : List UInt8 := [180, 0, 20, 180, 1, 33, 180, 1, 46, 120, 4, 100, 62, 42, 27, 2, 182, 1, 55, 28, 4, 159, 0, 13]
abbrev dktX0_bears_1 : List UInt8 := dkwX0_bears_1 ++ dktX0_bears_2
def dkwX0_bears_0 : List UInt8 := [27, 4, 16, 99, 184, 0, 78, 153, 0, 12, 28, 3, 4, 184, 0, 78, 154, 0, 5, 2, 172, 4, 42]
abbrev dktX0_bears_0 : List UInt8 := dkwX0_bears_0 ++ dktX0_bears_1
theorem dksX0_bears_0 : cX0_bears.data.toList.drop 0 = dktX0_bears_0 := by decide +kernel
theorem dksX0_bears_1 : cX0_bears.data.toList.drop 23 = dktX0_bears_1 := dk_seg dksX0_bears_0 23 rfl rfl
theorem dksX0_bears_2 : cX0_bears.data.toList.drop 47 = dktX0_bears_2 := dk_seg dksX0_bears_1 24 rfl rfl
theorem dksX0_bears_3 : cX0_bears.data.toList.drop 70 = dktX0_bears_3 := dk_seg dksX0_bears_2 23 rfl rfl
theorem dksX0_bears_4 : cX0_bears.data.toList.drop 94 = dktX0_bears_4 := dk_seg dksX0_bears_3 24 rfl rfl
theorem dX0_bears_0 : decode cX0_bears 0 = .ok (.iload_n 1, 1) := dk_27 (dk_at dksX0_bears_0 0 rfl rfl)
theorem dX0_bears_1 : decode cX0_bears 1 = .ok (.iconst 1, 1) := dk_4 (dk_at dksX0_bears_0 1 rfl rfl)
theorem dX0_bears_2 : decode cX0_bears 2 = .ok (.bipush 99, 2) := dk_16 99 (dk_at dksX0_bears_0 2 rfl rfl)
theorem dX0_bears_4 : decode cX0_bears 4 = .ok (.invokestatic 78, 3) := dk_184 0 78 (dk_at dksX0_bears_0 4 rfl rfl)
theorem dX0_bears_7 : decode cX0_bears 7 = .ok (.ifCond .eq 12, 3) := dk_153 0 12 (dk_at dksX0_bears_0 7 rfl rfl)
theorem dX0_bears_10 : decode cX0_bears 10 = .ok (.iload_n 2, 1) := dk_28 (dk_at dksX0_bears_0 10 rfl rfl)
theorem dX0_bears_11 : decode cX0_bears 11 = .ok (.iconst 0, 1) := dk_3 (dk_at dksX0_bears_0 11 rfl rfl)
theorem dX0_bears_12 : decode cX0_bears 12 = .ok (.iconst 1, 1) := dk_4 (dk_at dksX0_bears_0 12 rfl rfl)
theorem dX0_bears_13 : decode cX0_bears 13 = .ok (.invokestatic 78, 3) := dk_184 0 78 (dk_at dksX0_bears_0 13 rfl rfl)
theorem dX0_bears_16 : decode cX0_bears 16 = .ok (.ifCond .ne 5, 3) := dk_154 0 5 (dk_at dksX0_bears_0 16 rfl rfl)
theorem dX0_bears_19 : decode cX0_bears 19 = .ok (.iconst (-1), 1) := dk_2 (dk_at dksX0_bears_0 19 rfl rfl)
theorem dX0_bears_20 : decode cX0_bears 20 = .ok (.ireturn, 1) := dk_172 (dk_at dksX0_bears_0 20 rfl rfl)
theorem dX0_bears_21 : decode cX0_bears 21 = .ok (.iconst 1, 1) := dk_4 (dk_at dksX0_bears_0 21 rfl rfl)
theorem dX0_bears_22 : decode cX0_bears 22 = .ok (.aload_n 0, 1) := dk_42 (dk_at dksX0_bears_0 22 rfl rfl)
theorem dX0_bears_23 : decode cX0_bears 23 = .ok (.getfield 20, 3) := dk_180 0 20 (dk_at dksX0_bears_1 0 rfl rfl)
theorem dX0_bears_26 : decode cX0_bears 26 = .ok (.getfield 289, 3) := dk_180 1 33 (dk_at dksX0_bears_1 3 rfl rfl)
theorem dX0_bears_29 : decode cX0_bears 29 = .ok (.getfield 302, 3) := dk_180 1 46 (dk_at dksX0_bears_1 6 rfl rfl)
theorem dX0_bears_32 : decode cX0_bears 32 = .ok (.ishl, 1) := dk_120 (dk_at dksX0_bears_1 9 rfl rfl)
theorem dX0_bears_33 : decode cX0_bears 33 = .ok (.iconst 1, 1) := dk_4 (dk_at dksX0_bears_1 10 rfl rfl)
theorem dX0_bears_34 : decode cX0_bears 34 = .ok (.isub, 1) := dk_100 (dk_at dksX0_bears_1 11 rfl rfl)
theorem dX0_bears_35 : decode cX0_bears 35 = .ok (.istore_n 3, 1) := dk_62 (dk_at dksX0_bears_1 12 rfl rfl)
theorem dX0_bears_36 : decode cX0_bears 36 = .ok (.aload_n 0, 1) := dk_42 (dk_at dksX0_bears_1 13 rfl rfl)
theorem dX0_bears_37 : decode cX0_bears 37 = .ok (.iload_n 1, 1) := dk_27 (dk_at dksX0_bears_1 14 rfl rfl)
theorem dX0_bears_38 : decode cX0_bears 38 = .ok (.iconst (-1), 1) := dk_2 (dk_at dksX0_bears_1 15 rfl rfl)
theorem dX0_bears_39 : decode cX0_bears 39 = .ok (.invokevirtual 311, 3) := dk_182 1 55 (dk_at dksX0_bears_1 16 rfl rfl)
theorem dX0_bears_42 : decode cX0_bears 42 = .ok (.iload_n 2, 1) := dk_28 (dk_at dksX0_bears_1 19 rfl rfl)
theorem dX0_bears_43 : decode cX0_bears 43 = .ok (.iconst 1, 1) := dk_4 (dk_at dksX0_bears_1 20 rfl rfl)
theorem dX0_bears_44 : decode cX0_bears 44 = .ok (.if_icmp .eq 13, 3) := dk_159 0 13 (dk_at dksX0_bears_1 21 rfl rfl)
theorem dX0_bears_47 : decode cX0_bears 47 = .ok (.aload_n 0, 1) := dk_42 (dk_at dksX0_bears_2 0 rfl rfl)
theorem dX0_bears_48 : decode cX0_bears 48 = .ok (.getfield 50, 3) := dk_180 0 50 (dk_at dksX0_bears_2 1 rfl rfl)
theorem dX0_bears_51 : decode cX0_bears 51 = .ok (.iload_n 3, 1) := dk_29 (dk_at dksX0_bears_2 4 rfl rfl)
theorem dX0_bears_52 : decode cX0_bears 52 = .ok (.iaload, 1) := dk_46 (dk_at dksX0_bears_2 5 rfl rfl)
theorem dX0_bears_53 : decode cX0_bears 53 = .ok (.iconst (-1), 1) := dk_2 (dk_at dksX0_bears_2 6 rfl rfl)
theorem dX0_bears_54 : decode cX0_bears 54 = .ok (.if_icmp .ne 10, 3) := dk_160 0 10 (dk_at dksX0_bears_2 7 rfl rfl)
theorem dX0_bears_57 : decode cX0_bears 57 = .ok (.aload_n 0, 1) := dk_42 (dk_at dksX0_bears_2 10 rfl rfl)
theorem dX0_bears_58 : decode cX0_bears 58 = .ok (.getfield 50, 3) := dk_180 0 50 (dk_at dksX0_bears_2 11 rfl rfl)
theorem dX0_bears_61 : decode cX0_bears 61 = .ok (.iload_n 3, 1) := dk_29 (dk_at dksX0_bears_2 14 rfl rfl)
theorem dX0_bears_62 : decode cX0_bears 62 = .ok (.iaload, 1) := dk_46 (dk_at dksX0_bears_2 15 rfl rfl)
theorem dX0_bears_63 : decode cX0_bears 63 = .ok (.ireturn, 1) := dk_172 (dk_at dksX0_bears_2 16 rfl rfl)
theorem dX0_bears_64 : decode cX0_bears 64 = .ok (.iconst 0, 1) := dk_3 (dk_at dksX0_bears_2 17 rfl rfl)
theorem dX0_bears_65 : decode cX0_bears 65 = .ok (.istore 4, 2) := dk_54 4 (dk_at dksX0_bears_2 18 rfl rfl)
theorem dX0_bears_67 : decode cX0_bears 67 = .ok (.iload 4, 2) := dk_21 4 (dk_at dksX0_bears_2 20 rfl rfl)
theorem dX0_bears_69 : decode cX0_bears 69 = .ok (.aload_n 0, 1) := dk_42 (dk_at dksX0_bears_2 22 rfl rfl)
theorem dX0_bears_70 : decode cX0_bears 70 = .ok (.getfield 20, 3) := dk_180 0 20 (dk_at dksX0_bears_3 0 rfl rfl)
theorem dX0_bears_73 : decode cX0_bears 73 = .ok (.getfield 289, 3) := dk_180 1 33 (dk_at dksX0_bears_3 3 rfl rfl)
theorem dX0_bears_76 : decode cX0_bears 76 = .ok (.getfield 302, 3) := dk_180 1 46 (dk_at dksX0_bears_3 6 rfl rfl)
theorem dX0_bears_79 : decode cX0_bears 79 = .ok (.if_icmp .ge 29, 3) := dk_162 0 29 (dk_at dksX0_bears_3 9 rfl rfl)
theorem dX0_bears_82 : decode cX0_bears 82 = .ok (.aload_n 0, 1) := dk_42 (dk_at dksX0_bears_3 12 rfl rfl)
theorem dX0_bears_83 : decode cX0_bears 83 = .ok (.iload_n 1, 1) := dk_27 (dk_at dksX0_bears_3 13 rfl rfl)
theorem dX0_bears_84 : decode cX0_bears 84 = .ok (.iload 4, 2) := dk_21 4 (dk_at dksX0_bears_3 14 rfl rfl)
theorem dX0_bears_86 : decode cX0_bears 86 = .ok (.invokevirtual 311, 3) := dk_182 1 55 (dk_at dksX0_bears_3 16 rfl rfl)
theorem dX0_bears_89 : decode cX0_bears 89 = .ok (.aload_n 0, 1) := dk_42 (dk_at dksX0_bears_3 19 rfl rfl)
theorem dX0_bears_90 : decode cX0_bears 90 = .ok (.getfield 50, 3) := dk_180 0 50 (dk_at dksX0_bears_3 20 rfl rfl)
theorem dX0_bears_93 : decode cX0_bears 93 = .ok (.iload_n 3, 1) := dk_29 (dk_at dksX0_bears_3 23 rfl rfl)
theorem dX0_bears_94 : decode cX0_bears 94 = .ok (.iaload, 1) := dk_46 (dk_at dksX0_bears_4 0 rfl rfl)
theorem dX0_bears_95 : decode cX0_bears 95 = .ok (.iconst (-1), 1) := dk_2 (dk_at dksX0_bears_4 1 rfl rfl)
theorem dX0_bears_96 : decode cX0_bears 96 = .ok (.if_icmp .eq 6, 3) := dk_159 0 6 (dk_at dksX0_bears_4 2 rfl rfl)
theorem dX0_bears_99 : decode cX0_bears 99 = .ok (.iload 4, 2) := dk_21 4 (dk_at dksX0_bears_4 5 rfl rfl)
theorem dX0_bears_101 : decode cX0_bears 101 = .ok (.ireturn, 1) := dk_172 (dk_at dksX0_bears_4 7 rfl rfl)
theorem dX0_bears_102 : decode cX0_bears 102 = .ok (.iinc 4 1, 3) := dk_132 4 1 (dk_at dksX0_bears_4 8 rfl rfl)
theorem dX0_bears_105 : decode cX0_bears 105 = .ok (.goto (-38), 3) := dk_167 255 218 (dk_at dksX0_bears_4 11 rfl rfl)
theorem dX0_bears_108 : decode cX0_bears 108 = .ok (.iconst (-1), 1) := dk_2 (dk_at dksX0_bears_4 14 rfl rfl)
theorem dX0_bears_109 : decode cX0_bears 109 = .ok (.ireturn, 1) := dk_172 (dk_at dksX0_bears_4 15 rfl rfl)
abbrev cX0_laysBlows : ByteArray := prog_1_method_36_code
def yX0_laysBlows : MethodName := ⟨RX0, "laysBlows", "(II)V"⟩
def dkwX0_laysBlows_7 : List UInt8 := [21, 7, 184, 0, 68, 79, 132, 5, 1, 167, 255, 127, 132, 4, 1, 167, 255, 93, 177]
abbrev dktX0_laysBlows_7 : List UInt8 := dkwX0_laysBlows_7 ++ []
def dkwX0_laysBlows_6 : List UInt8 := [21, 7, 4, 162, 0, 13, 42, 180, 0, 50, 21, 4, 46, 167, 0, 15, 42, 180, 0, 50, 21, 4, 46]
abbrev dktX0_laysBlows_6 : List UInt8 := dkwX0_laysBlows_6 ++ dktX0_laysBlows_7
def dkwX0_laysBlows_5 : List UInt8 := [180, 1, 33, 180, 1, 52, 21, 5, 50, 3, 46, 96, 184, 0, 62, 54, 7, 42, 180, 0, 50, 21, 4]
abbrev dktX0_laysBlows_5 : List UInt8 := dkwX0_laysBlows_5 ++ dktX0_laysBlows_6
def dkwX0_laysBlows_4 : List UInt8 := [184, 1, 47, 4, 160, 0, 12, 21, 5, 28, 159, 0, 6, 167, 0, 63, 16, 99, 21, 6, 42, 180, 0, 20]
abbrev dktX0_laysBlows_4 : List UInt8 := dkwX0_laysBlows_4 ++ dktX0_laysBlows_5
def dkwX0_laysBlows_3 : List UInt8 := [2, 130, 126, 46, 167, 0, 4, 2, 54, 6, 21, 6, 2, 159, 0, 86, 28, 2, 159, 0, 21, 21, 4]
abbrev dktX0_laysBlows_3 : List UInt8 := dkwX0_laysBlows_3 ++ dktX0_laysBlows_4
def dkwX0_laysBlows_2 : List UInt8 := [162, 0, 129, 21, 4, 21, 5, 122, 4, 126, 4, 160, 0, 20, 42, 180, 0, 50, 21, 4, 4, 21, 5, 120]
abbrev dktX0_laysBlows_2 : List UInt8 := dkwX0_laysBlows_2 ++ dktX0_laysBlows_3
def dkwX0_laysBlows_1 : List UInt8 := [180, 0, 50, 21, 4, 21, 4, 154, 0, 7, 27, 167, 0, 4, 2, 79, 3, 54, 5, 21, 5, 29]
abbrev dktX0_laysBlows_1 : List UInt8 := dkwX0_laysBlows_1 ++ dktX0_laysBlows_2
def dkwX0_laysBlows_0 : List UInt8 := [42, 180, 0, 20, 180, 1, 33, 180, 1, 46, 62, 3, 54, 4, 21, 4, 4, 29, 120, 162, 0, 161, 42]
abbrev dktX0_laysBlows_0 : List UInt8 := dkwX0_laysBlows_0 ++ dktX0_laysBlows_1
theorem dksX0_laysBlows_0 : cX0_laysBlows.data.toList.drop 0 = dktX0_laysBlows_0 := by decide +kernel
theorem dksX0_laysBlows_1 : cX0_laysBlows.data.toList.drop 23 = dktX0_laysBlows_1 := dk_seg dksX0_laysBlows_0 23 rfl rfl
theorem dksX0_laysBlows_2 : cX0_laysBlows.data.toList.drop 45 = dktX0_laysBlows_2 := dk_seg dksX0_laysBlows_1 22 rfl rfl
theorem dksX0_laysBlows_3 : cX0_laysBlows.data.toList.drop 69 = dktX0_laysBlows_3 := dk_seg dksX0_laysBlows_2 24 rfl rfl
theorem dksX0_laysBlows_4 : cX0_laysBlows.data.toList.drop 92 = dktX0_laysBlows_4 := dk_seg dksX0_laysBlows_3 23 rfl rfl
theorem dksX0_laysBlows_5 : cX0_laysBlows.data.toList.drop 116 = dktX0_laysBlows_5 := dk_seg dksX0_laysBlows_4 24 rfl rfl
theorem dksX0_laysBlows_6 : cX0_laysBlows.data.toList.drop 139 = dktX0_laysBlows_6 := dk_seg dksX0_laysBlows_5 23 rfl rfl
theorem dksX0_laysBlows_7 : cX0_laysBlows.data.toList.drop 162 = dktX0_laysBlows_7 := dk_seg dksX0_laysBlows_6 23 rfl rfl
theorem dX0_laysBlows_0 : decode cX0_laysBlows 0 = .ok (.aload_n 0, 1) := dk_42 (dk_at dksX0_laysBlows_0 0 rfl rfl)
theorem dX0_laysBlows_1 : decode cX0_laysBlows 1 = .ok (.getfield 20, 3) := dk_180 0 20 (dk_at dksX0_laysBlows_0 1 rfl rfl)
theorem dX0_laysBlows_4 : decode cX0_laysBlows 4 = .ok (.getfield 289, 3) := dk_180 1 33 (dk_at dksX0_laysBlows_0 4 rfl rfl)
theorem dX0_laysBlows_7 : decode cX0_laysBlows 7 = .ok (.getfield 302, 3) := dk_180 1 46 (dk_at dksX0_laysBlows_0 7 rfl rfl)
theorem dX0_laysBlows_10 : decode cX0_laysBlows 10 = .ok (.istore_n 3, 1) := dk_62 (dk_at dksX0_laysBlows_0 10 rfl rfl)
theorem dX0_laysBlows_11 : decode cX0_laysBlows 11 = .ok (.iconst 0, 1) := dk_3 (dk_at dksX0_laysBlows_0 11 rfl rfl)
theorem dX0_laysBlows_12 : decode cX0_laysBlows 12 = .ok (.istore 4, 2) := dk_54 4 (dk_at dksX0_laysBlows_0 12 rfl rfl)
theorem dX0_laysBlows_14 : decode cX0_laysBlows 14 = .ok (.iload 4, 2) := dk_21 4 (dk_at dksX0_laysBlows_0 14 rfl rfl)
theorem dX0_laysBlows_16 : decode cX0_laysBlows 16 = .ok (.iconst 1, 1) := dk_4 (dk_at dksX0_laysBlows_0 16 rfl rfl)
theorem dX0_laysBlows_17 : decode cX0_laysBlows 17 = .ok (.iload_n 3, 1) := dk_29 (dk_at dksX0_laysBlows_0 17 rfl rfl)
theorem dX0_laysBlows_18 : decode cX0_laysBlows 18 = .ok (.ishl, 1) := dk_120 (dk_at dksX0_laysBlows_0 18 rfl rfl)
theorem dX0_laysBlows_19 : decode cX0_laysBlows 19 = .ok (.if_icmp .ge 161, 3) := dk_162 0 161 (dk_at dksX0_laysBlows_0 19 rfl rfl)
theorem dX0_laysBlows_22 : decode cX0_laysBlows 22 = .ok (.aload_n 0, 1) := dk_42 (dk_at dksX0_laysBlows_0 22 rfl rfl)
theorem dX0_laysBlows_23 : decode cX0_laysBlows 23 = .ok (.getfield 50, 3) := dk_180 0 50 (dk_at dksX0_laysBlows_1 0 rfl rfl)
theorem dX0_laysBlows_26 : decode cX0_laysBlows 26 = .ok (.iload 4, 2) := dk_21 4 (dk_at dksX0_laysBlows_1 3 rfl rfl)
theorem dX0_laysBlows_28 : decode cX0_laysBlows 28 = .ok (.iload 4, 2) := dk_21 4 (dk_at dksX0_laysBlows_1 5 rfl rfl)
theorem dX0_laysBlows_30 : decode cX0_laysBlows 30 = .ok (.ifCond .ne 7, 3) := dk_154 0 7 (dk_at dksX0_laysBlows_1 7 rfl rfl)
theorem dX0_laysBlows_33 : decode cX0_laysBlows 33 = .ok (.iload_n 1, 1) := dk_27 (dk_at dksX0_laysBlows_1 10 rfl rfl)
theorem dX0_laysBlows_34 : decode cX0_laysBlows 34 = .ok (.goto 4, 3) := dk_167 0 4 (dk_at dksX0_laysBlows_1 11 rfl rfl)
theorem dX0_laysBlows_37 : decode cX0_laysBlows 37 = .ok (.iconst (-1), 1) := dk_2 (dk_at dksX0_laysBlows_1 14 rfl rfl)
theorem dX0_laysBlows_38 : decode cX0_laysBlows 38 = .ok (.iastore, 1) := dk_79 (dk_at dksX0_laysBlows_1 15 rfl rfl)
theorem dX0_laysBlows_39 : decode cX0_laysBlows 39 = .ok (.iconst 0, 1) := dk_3 (dk_at dksX0_laysBlows_1 16 rfl rfl)
theorem dX0_laysBlows_40 : decode cX0_laysBlows 40 = .ok (.istore 5, 2) := dk_54 5 (dk_at dksX0_laysBlows_1 17 rfl rfl)
theorem dX0_laysBlows_42 : decode cX0_laysBlows 42 = .ok (.iload 5, 2) := dk_21 5 (dk_at dksX0_laysBlows_1 19 rfl rfl)
theorem dX0_laysBlows_44 : decode cX0_laysBlows 44 = .ok (.iload_n 3, 1) := dk_29 (dk_at dksX0_laysBlows_1 21 rfl rfl)
theorem dX0_laysBlows_45 : decode cX0_laysBlows 45 = .ok (.if_icmp .ge 129, 3) := dk_162 0 129 (dk_at dksX0_laysBlows_2 0 rfl rfl)
theorem dX0_laysBlows_48 : decode cX0_laysBlows 48 = .ok (.iload 4, 2) := dk_21 4 (dk_at dksX0_laysBlows_2 3 rfl rfl)
theorem dX0_laysBlows_50 : decode cX0_laysBlows 50 = .ok (.iload 5, 2) := dk_21 5 (dk_at dksX0_laysBlows_2 5 rfl rfl)
theorem dX0_laysBlows_52 : decode cX0_laysBlows 52 = .ok (.ishr, 1) := dk_122 (dk_at dksX0_laysBlows_2 7 rfl rfl)
theorem dX0_laysBlows_53 : decode cX0_laysBlows 53 = .ok (.iconst 1, 1) := dk_4 (dk_at dksX0_laysBlows_2 8 rfl rfl)
theorem dX0_laysBlows_54 : decode cX0_laysBlows 54 = .ok (.iand, 1) := dk_126 (dk_at dksX0_laysBlows_2 9 rfl rfl)
theorem dX0_laysBlows_55 : decode cX0_laysBlows 55 = .ok (.iconst 1, 1) := dk_4 (dk_at dksX0_laysBlows_2 10 rfl rfl)
theorem dX0_laysBlows_56 : decode cX0_laysBlows 56 = .ok (.if_icmp .ne 20, 3) := dk_160 0 20 (dk_at dksX0_laysBlows_2 11 rfl rfl)
theorem dX0_laysBlows_59 : decode cX0_laysBlows 59 = .ok (.aload_n 0, 1) := dk_42 (dk_at dksX0_laysBlows_2 14 rfl rfl)
theorem dX0_laysBlows_60 : decode cX0_laysBlows 60 = .ok (.getfield 50, 3) := dk_180 0 50 (dk_at dksX0_laysBlows_2 15 rfl rfl)
theorem dX0_laysBlows_63 : decode cX0_laysBlows 63 = .ok (.iload 4, 2) := dk_21 4 (dk_at dksX0_laysBlows_2 18 rfl rfl)
theorem dX0_laysBlows_65 : decode cX0_laysBlows 65 = .ok (.iconst 1, 1) := dk_4 (dk_at dksX0_laysBlows_2 20 rfl rfl)
theorem dX0_laysBlows_66 : decode cX0_laysBlows 66 = .ok (.iload 5, 2) := dk_21 5 (dk_at dksX0_laysBlows_2 21 rfl rfl)
theorem dX0_laysBlows_68 : decode cX0_laysBlows 68 = .ok (.ishl, 1) := dk_120 (dk_at dksX0_laysBlows_2 23 rfl rfl)
theorem dX0_laysBlows_69 : decode cX0_laysBlows 69 = .ok (.iconst (-1), 1) := dk_2 (dk_at dksX0_laysBlows_3 0 rfl rfl)
theorem dX0_laysBlows_70 : decode cX0_laysBlows 70 = .ok (.ixor, 1) := dk_130 (dk_at dksX0_laysBlows_3 1 rfl rfl)
theorem dX0_laysBlows_71 : decode cX0_laysBlows 71 = .ok (.iand, 1) := dk_126 (dk_at dksX0_laysBlows_3 2 rfl rfl)
theorem dX0_laysBlows_72 : decode cX0_laysBlows 72 = .ok (.iaload, 1) := dk_46 (dk_at dksX0_laysBlows_3 3 rfl rfl)
theorem dX0_laysBlows_73 : decode cX0_laysBlows 73 = .ok (.goto 4, 3) := dk_167 0 4 (dk_at dksX0_laysBlows_3 4 rfl rfl)
theorem dX0_laysBlows_76 : decode cX0_laysBlows 76 = .ok (.iconst (-1), 1) := dk_2 (dk_at dksX0_laysBlows_3 7 rfl rfl)
theorem dX0_laysBlows_77 : decode cX0_laysBlows 77 = .ok (.istore 6, 2) := dk_54 6 (dk_at dksX0_laysBlows_3 8 rfl rfl)
theorem dX0_laysBlows_79 : decode cX0_laysBlows 79 = .ok (.iload 6, 2) := dk_21 6 (dk_at dksX0_laysBlows_3 10 rfl rfl)
theorem dX0_laysBlows_81 : decode cX0_laysBlows 81 = .ok (.iconst (-1), 1) := dk_2 (dk_at dksX0_laysBlows_3 12 rfl rfl)
theorem dX0_laysBlows_82 : decode cX0_laysBlows 82 = .ok (.if_icmp .eq 86, 3) := dk_159 0 86 (dk_at dksX0_laysBlows_3 13 rfl rfl)
theorem dX0_laysBlows_85 : decode cX0_laysBlows 85 = .ok (.iload_n 2, 1) := dk_28 (dk_at dksX0_laysBlows_3 16 rfl rfl)
theorem dX0_laysBlows_86 : decode cX0_laysBlows 86 = .ok (.iconst (-1), 1) := dk_2 (dk_at dksX0_laysBlows_3 17 rfl rfl)
theorem dX0_laysBlows_87 : decode cX0_laysBlows 87 = .ok (.if_icmp .eq 21, 3) := dk_159 0 21 (dk_at dksX0_laysBlows_3 18 rfl rfl)
theorem dX0_laysBlows_90 : decode cX0_laysBlows 90 = .ok (.iload 4, 2) := dk_21 4 (dk_at dksX0_laysBlows_3 21 rfl rfl)
theorem dX0_laysBlows_92 : decode cX0_laysBlows 92 = .ok (.invokestatic 303, 3) := dk_184 1 47 (dk_at dksX0_laysBlows_4 0 rfl rfl)
theorem dX0_laysBlows_95 : decode cX0_laysBlows 95 = .ok (.iconst 1, 1) := dk_4 (dk_at dksX0_laysBlows_4 3 rfl rfl)
theorem dX0_laysBlows_96 : decode cX0_laysBlows 96 = .ok (.if_icmp .ne 12, 3) := dk_160 0 12 (dk_at dksX0_laysBlows_4 4 rfl rfl)
theorem dX0_laysBlows_99 : decode cX0_laysBlows 99 = .ok (.iload 5, 2) := dk_21 5 (dk_at dksX0_laysBlows_4 7 rfl rfl)
theorem dX0_laysBlows_101 : decode cX0_laysBlows 101 = .ok (.iload_n 2, 1) := dk_28 (dk_at dksX0_laysBlows_4 9 rfl rfl)
theorem dX0_laysBlows_102 : decode cX0_laysBlows 102 = .ok (.if_icmp .eq 6, 3) := dk_159 0 6 (dk_at dksX0_laysBlows_4 10 rfl rfl)
theorem dX0_laysBlows_105 : decode cX0_laysBlows 105 = .ok (.goto 63, 3) := dk_167 0 63 (dk_at dksX0_laysBlows_4 13 rfl rfl)
theorem dX0_laysBlows_108 : decode cX0_laysBlows 108 = .ok (.bipush 99, 2) := dk_16 99 (dk_at dksX0_laysBlows_4 16 rfl rfl)
theorem dX0_laysBlows_110 : decode cX0_laysBlows 110 = .ok (.iload 6, 2) := dk_21 6 (dk_at dksX0_laysBlows_4 18 rfl rfl)
theorem dX0_laysBlows_112 : decode cX0_laysBlows 112 = .ok (.aload_n 0, 1) := dk_42 (dk_at dksX0_laysBlows_4 20 rfl rfl)
theorem dX0_laysBlows_113 : decode cX0_laysBlows 113 = .ok (.getfield 20, 3) := dk_180 0 20 (dk_at dksX0_laysBlows_4 21 rfl rfl)
theorem dX0_laysBlows_116 : decode cX0_laysBlows 116 = .ok (.getfield 289, 3) := dk_180 1 33 (dk_at dksX0_laysBlows_5 0 rfl rfl)
theorem dX0_laysBlows_119 : decode cX0_laysBlows 119 = .ok (.getfield 308, 3) := dk_180 1 52 (dk_at dksX0_laysBlows_5 3 rfl rfl)
theorem dX0_laysBlows_122 : decode cX0_laysBlows 122 = .ok (.iload 5, 2) := dk_21 5 (dk_at dksX0_laysBlows_5 6 rfl rfl)
theorem dX0_laysBlows_124 : decode cX0_laysBlows 124 = .ok (.aaload, 1) := dk_50 (dk_at dksX0_laysBlows_5 8 rfl rfl)
theorem dX0_laysBlows_125 : decode cX0_laysBlows 125 = .ok (.iconst 0, 1) := dk_3 (dk_at dksX0_laysBlows_5 9 rfl rfl)
theorem dX0_laysBlows_126 : decode cX0_laysBlows 126 = .ok (.iaload, 1) := dk_46 (dk_at dksX0_laysBlows_5 10 rfl rfl)
theorem dX0_laysBlows_127 : decode cX0_laysBlows 127 = .ok (.iadd, 1) := dk_96 (dk_at dksX0_laysBlows_5 11 rfl rfl)
theorem dX0_laysBlows_128 : decode cX0_laysBlows 128 = .ok (.invokestatic 62, 3) := dk_184 0 62 (dk_at dksX0_laysBlows_5 12 rfl rfl)
theorem dX0_laysBlows_131 : decode cX0_laysBlows 131 = .ok (.istore 7, 2) := dk_54 7 (dk_at dksX0_laysBlows_5 15 rfl rfl)
theorem dX0_laysBlows_133 : decode cX0_laysBlows 133 = .ok (.aload_n 0, 1) := dk_42 (dk_at dksX0_laysBlows_5 17 rfl rfl)
theorem dX0_laysBlows_134 : decode cX0_laysBlows 134 = .ok (.getfield 50, 3) := dk_180 0 50 (dk_at dksX0_laysBlows_5 18 rfl rfl)
theorem dX0_laysBlows_137 : decode cX0_laysBlows 137 = .ok (.iload 4, 2) := dk_21 4 (dk_at dksX0_laysBlows_5 21 rfl rfl)
theorem dX0_laysBlows_139 : decode cX0_laysBlows 139 = .ok (.iload 7, 2) := dk_21 7 (dk_at dksX0_laysBlows_6 0 rfl rfl)
theorem dX0_laysBlows_141 : decode cX0_laysBlows 141 = .ok (.iconst 1, 1) := dk_4 (dk_at dksX0_laysBlows_6 2 rfl rfl)
theorem dX0_laysBlows_142 : decode cX0_laysBlows 142 = .ok (.if_icmp .ge 13, 3) := dk_162 0 13 (dk_at dksX0_laysBlows_6 3 rfl rfl)
theorem dX0_laysBlows_145 : decode cX0_laysBlows 145 = .ok (.aload_n 0, 1) := dk_42 (dk_at dksX0_laysBlows_6 6 rfl rfl)
theorem dX0_laysBlows_146 : decode cX0_laysBlows 146 = .ok (.getfield 50, 3) := dk_180 0 50 (dk_at dksX0_laysBlows_6 7 rfl rfl)
theorem dX0_laysBlows_149 : decode cX0_laysBlows 149 = .ok (.iload 4, 2) := dk_21 4 (dk_at dksX0_laysBlows_6 10 rfl rfl)
theorem dX0_laysBlows_151 : decode cX0_laysBlows 151 = .ok (.iaload, 1) := dk_46 (dk_at dksX0_laysBlows_6 12 rfl rfl)
theorem dX0_laysBlows_152 : decode cX0_laysBlows 152 = .ok (.goto 15, 3) := dk_167 0 15 (dk_at dksX0_laysBlows_6 13 rfl rfl)
theorem dX0_laysBlows_155 : decode cX0_laysBlows 155 = .ok (.aload_n 0, 1) := dk_42 (dk_at dksX0_laysBlows_6 16 rfl rfl)
theorem dX0_laysBlows_156 : decode cX0_laysBlows 156 = .ok (.getfield 50, 3) := dk_180 0 50 (dk_at dksX0_laysBlows_6 17 rfl rfl)
theorem dX0_laysBlows_159 : decode cX0_laysBlows 159 = .ok (.iload 4, 2) := dk_21 4 (dk_at dksX0_laysBlows_6 20 rfl rfl)
theorem dX0_laysBlows_161 : decode cX0_laysBlows 161 = .ok (.iaload, 1) := dk_46 (dk_at dksX0_laysBlows_6 22 rfl rfl)
theorem dX0_laysBlows_162 : decode cX0_laysBlows 162 = .ok (.iload 7, 2) := dk_21 7 (dk_at dksX0_laysBlows_7 0 rfl rfl)
theorem dX0_laysBlows_164 : decode cX0_laysBlows 164 = .ok (.invokestatic 68, 3) := dk_184 0 68 (dk_at dksX0_laysBlows_7 2 rfl rfl)
theorem dX0_laysBlows_167 : decode cX0_laysBlows 167 = .ok (.iastore, 1) := dk_79 (dk_at dksX0_laysBlows_7 5 rfl rfl)
theorem dX0_laysBlows_168 : decode cX0_laysBlows 168 = .ok (.iinc 5 1, 3) := dk_132 5 1 (dk_at dksX0_laysBlows_7 6 rfl rfl)
theorem dX0_laysBlows_171 : decode cX0_laysBlows 171 = .ok (.goto (-129), 3) := dk_167 255 127 (dk_at dksX0_laysBlows_7 9 rfl rfl)
theorem dX0_laysBlows_174 : decode cX0_laysBlows 174 = .ok (.iinc 4 1, 3) := dk_132 4 1 (dk_at dksX0_laysBlows_7 12 rfl rfl)
theorem dX0_laysBlows_177 : decode cX0_laysBlows 177 = .ok (.goto (-163), 3) := dk_167 255 93 (dk_at dksX0_laysBlows_7 15 rfl rfl)
theorem dX0_laysBlows_180 : decode cX0_laysBlows 180 = .ok (.return_, 1) := dk_177 (dk_at dksX0_laysBlows_7 18 rfl rfl)
abbrev cX0_carries : ByteArray := prog_1_method_38_code
def yX0_carries : MethodName := ⟨RX0, "carries", "(II)I"⟩
def dkwX0_carries_9 : List UInt8 := [96, 19, 1, 58, 112, 54, 4, 132, 5, 1, 167, 255, 229, 28, 154, 0, 7, 29, 167, 0, 5, 21, 4, 172]
abbrev dktX0_carries_9 : List UInt8 := dkwX0_carries_9 ++ []
def dkwX0_carries_8 : List UInt8 := [62, 3, 54, 4, 3, 54, 5, 21, 5, 27, 163, 0, 27, 21, 4, 42, 180, 0, 53, 29, 50, 21, 5, 46]
abbrev dktX0_carries_8 : List UInt8 := dkwX0_carries_8 ++ dktX0_carries_9
def dkwX0_carries_7 : List UInt8 := [79, 132, 6, 255, 167, 255, 206, 132, 5, 255, 167, 255, 192, 132, 3, 1, 167, 255, 150, 42, 27, 182, 1, 59]
abbrev dktX0_carries_7 : List UInt8 := dkwX0_carries_7 ++ dktX0_carries_8
def dkwX0_carries_6 : List UInt8 := [50, 21, 6, 46, 42, 180, 0, 53, 21, 5, 4, 100, 50, 21, 6, 21, 4, 100, 46, 96, 19, 1, 58, 112]
abbrev dktX0_carries_6 : List UInt8 := dkwX0_carries_6 ++ dktX0_carries_7
def dkwX0_carries_5 : List UInt8 := [54, 6, 21, 6, 21, 4, 161, 0, 49, 42, 180, 0, 53, 21, 5, 50, 21, 6, 42, 180, 0, 53, 21, 5]
abbrev dktX0_carries_5 : List UInt8 := dkwX0_carries_5 ++ dktX0_carries_6
def dkwX0_carries_4 : List UInt8 := [180, 0, 195, 180, 0, 235, 29, 50, 180, 0, 247, 54, 4, 29, 4, 96, 54, 5, 21, 5, 158, 0, 65, 27]
abbrev dktX0_carries_4 : List UInt8 := dkwX0_carries_4 ++ dktX0_carries_5
def dkwX0_carries_3 : List UInt8 := [167, 255, 209, 3, 62, 29, 42, 180, 0, 20, 180, 0, 195, 180, 0, 199, 162, 0, 98, 42, 180, 0, 20]
abbrev dktX0_carries_3 : List UInt8 := dkwX0_carries_3 ++ dktX0_carries_4
def dkwX0_carries_2 : List UInt8 := [154, 0, 12, 21, 4, 154, 0, 7, 4, 167, 0, 4, 3, 79, 132, 4, 1, 167, 255, 224, 132, 3, 1]
abbrev dktX0_carries_2 : List UInt8 := dkwX0_carries_2 ++ dktX0_carries_3
def dkwX0_carries_1 : List UInt8 := [29, 16, 24, 163, 0, 47, 3, 54, 4, 21, 4, 27, 163, 0, 32, 42, 180, 0, 53, 29, 50, 21, 4, 29]
abbrev dktX0_carries_1 : List UInt8 := dkwX0_carries_1 ++ dktX0_carries_2
def dkwX0_carries_0 : List UInt8 := [27, 4, 17, 1, 144, 184, 0, 78, 153, 0, 12, 28, 3, 4, 184, 0, 78, 154, 0, 5, 2, 172, 3, 62]
abbrev dktX0_carries_0 : List UInt8 := dkwX0_carries_0 ++ dktX0_carries_1
theorem dksX0_carries_0 : cX0_carries.data.toList.drop 0 = dktX0_carries_0 := by decide +kernel
theorem dksX0_carries_1 : cX0_carries.data.toList.drop 24 = dktX0_carries_1 := dk_seg dksX0_carries_0 24 rfl rfl
theorem dksX0_carries_2 : cX0_carries.data.toList.drop 48 = dktX0_carries_2 := dk_seg dksX0_carries_1 24 rfl rfl
theorem dksX0_carries_3 : cX0_carries.data.toList.drop 71 = dktX0_carries_3 := dk_seg dksX0_carries_2 23 rfl rfl
theorem dksX0_carries_4 : cX0_carries.data.toList.drop 94 = dktX0_carries_4 := dk_seg dksX0_carries_3 23 rfl rfl
theorem dksX0_carries_5 : cX0_carries.data.toList.drop 118 = dktX0_carries_5 := dk_seg dksX0_carries_4 24 rfl rfl
theorem dksX0_carries_6 : cX0_carries.data.toList.drop 142 = dktX0_carries_6 := dk_seg dksX0_carries_5 24 rfl rfl
theorem dksX0_carries_7 : cX0_carries.data.toList.drop 166 = dktX0_carries_7 := dk_seg dksX0_carries_6 24 rfl rfl
theorem dksX0_carries_8 : cX0_carries.data.toList.drop 190 = dktX0_carries_8 := dk_seg dksX0_carries_7 24 rfl rfl
theorem dksX0_carries_9 : cX0_carries.data.toList.drop 214 = dktX0_carries_9 := dk_seg dksX0_carries_8 24 rfl rfl
theorem dX0_carries_0 : decode cX0_carries 0 = .ok (.iload_n 1, 1) := dk_27 (dk_at dksX0_carries_0 0 rfl rfl)
theorem dX0_carries_1 : decode cX0_carries 1 = .ok (.iconst 1, 1) := dk_4 (dk_at dksX0_carries_0 1 rfl rfl)
theorem dX0_carries_2 : decode cX0_carries 2 = .ok (.sipush 400, 3) := dk_17 1 144 (dk_at dksX0_carries_0 2 rfl rfl)
theorem dX0_carries_5 : decode cX0_carries 5 = .ok (.invokestatic 78, 3) := dk_184 0 78 (dk_at dksX0_carries_0 5 rfl rfl)
theorem dX0_carries_8 : decode cX0_carries 8 = .ok (.ifCond .eq 12, 3) := dk_153 0 12 (dk_at dksX0_carries_0 8 rfl rfl)
theorem dX0_carries_11 : decode cX0_carries 11 = .ok (.iload_n 2, 1) := dk_28 (dk_at dksX0_carries_0 11 rfl rfl)
theorem dX0_carries_12 : decode cX0_carries 12 = .ok (.iconst 0, 1) := dk_3 (dk_at dksX0_carries_0 12 rfl rfl)
theorem dX0_carries_13 : decode cX0_carries 13 = .ok (.iconst 1, 1) := dk_4 (dk_at dksX0_carries_0 13 rfl rfl)
theorem dX0_carries_14 : decode cX0_carries 14 = .ok (.invokestatic 78, 3) := dk_184 0 78 (dk_at dksX0_carries_0 14 rfl rfl)
theorem dX0_carries_17 : decode cX0_carries 17 = .ok (.ifCond .ne 5, 3) := dk_154 0 5 (dk_at dksX0_carries_0 17 rfl rfl)
theorem dX0_carries_20 : decode cX0_carries 20 = .ok (.iconst (-1), 1) := dk_2 (dk_at dksX0_carries_0 20 rfl rfl)
theorem dX0_carries_21 : decode cX0_carries 21 = .ok (.ireturn, 1) := dk_172 (dk_at dksX0_carries_0 21 rfl rfl)
theorem dX0_carries_22 : decode cX0_carries 22 = .ok (.iconst 0, 1) := dk_3 (dk_at dksX0_carries_0 22 rfl rfl)
theorem dX0_carries_23 : decode cX0_carries 23 = .ok (.istore_n 3, 1) := dk_62 (dk_at dksX0_carries_0 23 rfl rfl)
theorem dX0_carries_24 : decode cX0_carries 24 = .ok (.iload_n 3, 1) := dk_29 (dk_at dksX0_carries_1 0 rfl rfl)
theorem dX0_carries_25 : decode cX0_carries 25 = .ok (.bipush 24, 2) := dk_16 24 (dk_at dksX0_carries_1 1 rfl rfl)
theorem dX0_carries_27 : decode cX0_carries 27 = .ok (.if_icmp .gt 47, 3) := dk_163 0 47 (dk_at dksX0_carries_1 3 rfl rfl)
theorem dX0_carries_30 : decode cX0_carries 30 = .ok (.iconst 0, 1) := dk_3 (dk_at dksX0_carries_1 6 rfl rfl)
theorem dX0_carries_31 : decode cX0_carries 31 = .ok (.istore 4, 2) := dk_54 4 (dk_at dksX0_carries_1 7 rfl rfl)
theorem dX0_carries_33 : decode cX0_carries 33 = .ok (.iload 4, 2) := dk_21 4 (dk_at dksX0_carries_1 9 rfl rfl)
theorem dX0_carries_35 : decode cX0_carries 35 = .ok (.iload_n 1, 1) := dk_27 (dk_at dksX0_carries_1 11 rfl rfl)
theorem dX0_carries_36 : decode cX0_carries 36 = .ok (.if_icmp .gt 32, 3) := dk_163 0 32 (dk_at dksX0_carries_1 12 rfl rfl)
theorem dX0_carries_39 : decode cX0_carries 39 = .ok (.aload_n 0, 1) := dk_42 (dk_at dksX0_carries_1 15 rfl rfl)
theorem dX0_carries_40 : decode cX0_carries 40 = .ok (.getfield 53, 3) := dk_180 0 53 (dk_at dksX0_carries_1 16 rfl rfl)
theorem dX0_carries_43 : decode cX0_carries 43 = .ok (.iload_n 3, 1) := dk_29 (dk_at dksX0_carries_1 19 rfl rfl)
theorem dX0_carries_44 : decode cX0_carries 44 = .ok (.aaload, 1) := dk_50 (dk_at dksX0_carries_1 20 rfl rfl)
theorem dX0_carries_45 : decode cX0_carries 45 = .ok (.iload 4, 2) := dk_21 4 (dk_at dksX0_carries_1 21 rfl rfl)
theorem dX0_carries_47 : decode cX0_carries 47 = .ok (.iload_n 3, 1) := dk_29 (dk_at dksX0_carries_1 23 rfl rfl)
theorem dX0_carries_48 : decode cX0_carries 48 = .ok (.ifCond .ne 12, 3) := dk_154 0 12 (dk_at dksX0_carries_2 0 rfl rfl)
theorem dX0_carries_51 : decode cX0_carries 51 = .ok (.iload 4, 2) := dk_21 4 (dk_at dksX0_carries_2 3 rfl rfl)
theorem dX0_carries_53 : decode cX0_carries 53 = .ok (.ifCond .ne 7, 3) := dk_154 0 7 (dk_at dksX0_carries_2 5 rfl rfl)
theorem dX0_carries_56 : decode cX0_carries 56 = .ok (.iconst 1, 1) := dk_4 (dk_at dksX0_carries_2 8 rfl rfl)
theorem dX0_carries_57 : decode cX0_carries 57 = .ok (.goto 4, 3) := dk_167 0 4 (dk_at dksX0_carries_2 9 rfl rfl)
theorem dX0_carries_60 : decode cX0_carries 60 = .ok (.iconst 0, 1) := dk_3 (dk_at dksX0_carries_2 12 rfl rfl)
theorem dX0_carries_61 : decode cX0_carries 61 = .ok (.iastore, 1) := dk_79 (dk_at dksX0_carries_2 13 rfl rfl)
theorem dX0_carries_62 : decode cX0_carries 62 = .ok (.iinc 4 1, 3) := dk_132 4 1 (dk_at dksX0_carries_2 14 rfl rfl)
theorem dX0_carries_65 : decode cX0_carries 65 = .ok (.goto (-32), 3) := dk_167 255 224 (dk_at dksX0_carries_2 17 rfl rfl)
theorem dX0_carries_68 : decode cX0_carries 68 = .ok (.iinc 3 1, 3) := dk_132 3 1 (dk_at dksX0_carries_2 20 rfl rfl)
theorem dX0_carries_71 : decode cX0_carries 71 = .ok (.goto (-47), 3) := dk_167 255 209 (dk_at dksX0_carries_3 0 rfl rfl)
theorem dX0_carries_74 : decode cX0_carries 74 = .ok (.iconst 0, 1) := dk_3 (dk_at dksX0_carries_3 3 rfl rfl)
theorem dX0_carries_75 : decode cX0_carries 75 = .ok (.istore_n 3, 1) := dk_62 (dk_at dksX0_carries_3 4 rfl rfl)
theorem dX0_carries_76 : decode cX0_carries 76 = .ok (.iload_n 3, 1) := dk_29 (dk_at dksX0_carries_3 5 rfl rfl)
theorem dX0_carries_77 : decode cX0_carries 77 = .ok (.aload_n 0, 1) := dk_42 (dk_at dksX0_carries_3 6 rfl rfl)
theorem dX0_carries_78 : decode cX0_carries 78 = .ok (.getfield 20, 3) := dk_180 0 20 (dk_at dksX0_carries_3 7 rfl rfl)
theorem dX0_carries_81 : decode cX0_carries 81 = .ok (.getfield 195, 3) := dk_180 0 195 (dk_at dksX0_carries_3 10 rfl rfl)
theorem dX0_carries_84 : decode cX0_carries 84 = .ok (.getfield 199, 3) := dk_180 0 199 (dk_at dksX0_carries_3 13 rfl rfl)
theorem dX0_carries_87 : decode cX0_carries 87 = .ok (.if_icmp .ge 98, 3) := dk_162 0 98 (dk_at dksX0_carries_3 16 rfl rfl)
theorem dX0_carries_90 : decode cX0_carries 90 = .ok (.aload_n 0, 1) := dk_42 (dk_at dksX0_carries_3 19 rfl rfl)
theorem dX0_carries_91 : decode cX0_carries 91 = .ok (.getfield 20, 3) := dk_180 0 20 (dk_at dksX0_carries_3 20 rfl rfl)
theorem dX0_carries_94 : decode cX0_carries 94 = .ok (.getfield 195, 3) := dk_180 0 195 (dk_at dksX0_carries_4 0 rfl rfl)
theorem dX0_carries_97 : decode cX0_carries 97 = .ok (.getfield 235, 3) := dk_180 0 235 (dk_at dksX0_carries_4 3 rfl rfl)
theorem dX0_carries_100 : decode cX0_carries 100 = .ok (.iload_n 3, 1) := dk_29 (dk_at dksX0_carries_4 6 rfl rfl)
theorem dX0_carries_101 : decode cX0_carries 101 = .ok (.aaload, 1) := dk_50 (dk_at dksX0_carries_4 7 rfl rfl)
theorem dX0_carries_102 : decode cX0_carries 102 = .ok (.getfield 247, 3) := dk_180 0 247 (dk_at dksX0_carries_4 8 rfl rfl)
theorem dX0_carries_105 : decode cX0_carries 105 = .ok (.istore 4, 2) := dk_54 4 (dk_at dksX0_carries_4 11 rfl rfl)
theorem dX0_carries_107 : decode cX0_carries 107 = .ok (.iload_n 3, 1) := dk_29 (dk_at dksX0_carries_4 13 rfl rfl)
theorem dX0_carries_108 : decode cX0_carries 108 = .ok (.iconst 1, 1) := dk_4 (dk_at dksX0_carries_4 14 rfl rfl)
theorem dX0_carries_109 : decode cX0_carries 109 = .ok (.iadd, 1) := dk_96 (dk_at dksX0_carries_4 15 rfl rfl)
theorem dX0_carries_110 : decode cX0_carries 110 = .ok (.istore 5, 2) := dk_54 5 (dk_at dksX0_carries_4 16 rfl rfl)
theorem dX0_carries_112 : decode cX0_carries 112 = .ok (.iload 5, 2) := dk_21 5 (dk_at dksX0_carries_4 18 rfl rfl)
theorem dX0_carries_114 : decode cX0_carries 114 = .ok (.ifCond .le 65, 3) := dk_158 0 65 (dk_at dksX0_carries_4 20 rfl rfl)
theorem dX0_carries_117 : decode cX0_carries 117 = .ok (.iload_n 1, 1) := dk_27 (dk_at dksX0_carries_4 23 rfl rfl)
theorem dX0_carries_118 : decode cX0_carries 118 = .ok (.istore 6, 2) := dk_54 6 (dk_at dksX0_carries_5 0 rfl rfl)
theorem dX0_carries_120 : decode cX0_carries 120 = .ok (.iload 6, 2) := dk_21 6 (dk_at dksX0_carries_5 2 rfl rfl)
theorem dX0_carries_122 : decode cX0_carries 122 = .ok (.iload 4, 2) := dk_21 4 (dk_at dksX0_carries_5 4 rfl rfl)
theorem dX0_carries_124 : decode cX0_carries 124 = .ok (.if_icmp .lt 49, 3) := dk_161 0 49 (dk_at dksX0_carries_5 6 rfl rfl)
theorem dX0_carries_127 : decode cX0_carries 127 = .ok (.aload_n 0, 1) := dk_42 (dk_at dksX0_carries_5 9 rfl rfl)
theorem dX0_carries_128 : decode cX0_carries 128 = .ok (.getfield 53, 3) := dk_180 0 53 (dk_at dksX0_carries_5 10 rfl rfl)
theorem dX0_carries_131 : decode cX0_carries 131 = .ok (.iload 5, 2) := dk_21 5 (dk_at dksX0_carries_5 13 rfl rfl)
theorem dX0_carries_133 : decode cX0_carries 133 = .ok (.aaload, 1) := dk_50 (dk_at dksX0_carries_5 15 rfl rfl)
theorem dX0_carries_134 : decode cX0_carries 134 = .ok (.iload 6, 2) := dk_21 6 (dk_at dksX0_carries_5 16 rfl rfl)
theorem dX0_carries_136 : decode cX0_carries 136 = .ok (.aload_n 0, 1) := dk_42 (dk_at dksX0_carries_5 18 rfl rfl)
theorem dX0_carries_137 : decode cX0_carries 137 = .ok (.getfield 53, 3) := dk_180 0 53 (dk_at dksX0_carries_5 19 rfl rfl)
theorem dX0_carries_140 : decode cX0_carries 140 = .ok (.iload 5, 2) := dk_21 5 (dk_at dksX0_carries_5 22 rfl rfl)
theorem dX0_carries_142 : decode cX0_carries 142 = .ok (.aaload, 1) := dk_50 (dk_at dksX0_carries_6 0 rfl rfl)
theorem dX0_carries_143 : decode cX0_carries 143 = .ok (.iload 6, 2) := dk_21 6 (dk_at dksX0_carries_6 1 rfl rfl)
theorem dX0_carries_145 : decode cX0_carries 145 = .ok (.iaload, 1) := dk_46 (dk_at dksX0_carries_6 3 rfl rfl)
theorem dX0_carries_146 : decode cX0_carries 146 = .ok (.aload_n 0, 1) := dk_42 (dk_at dksX0_carries_6 4 rfl rfl)
theorem dX0_carries_147 : decode cX0_carries 147 = .ok (.getfield 53, 3) := dk_180 0 53 (dk_at dksX0_carries_6 5 rfl rfl)
theorem dX0_carries_150 : decode cX0_carries 150 = .ok (.iload 5, 2) := dk_21 5 (dk_at dksX0_carries_6 8 rfl rfl)
theorem dX0_carries_152 : decode cX0_carries 152 = .ok (.iconst 1, 1) := dk_4 (dk_at dksX0_carries_6 10 rfl rfl)
theorem dX0_carries_153 : decode cX0_carries 153 = .ok (.isub, 1) := dk_100 (dk_at dksX0_carries_6 11 rfl rfl)
theorem dX0_carries_154 : decode cX0_carries 154 = .ok (.aaload, 1) := dk_50 (dk_at dksX0_carries_6 12 rfl rfl)
theorem dX0_carries_155 : decode cX0_carries 155 = .ok (.iload 6, 2) := dk_21 6 (dk_at dksX0_carries_6 13 rfl rfl)
theorem dX0_carries_157 : decode cX0_carries 157 = .ok (.iload 4, 2) := dk_21 4 (dk_at dksX0_carries_6 15 rfl rfl)
theorem dX0_carries_159 : decode cX0_carries 159 = .ok (.isub, 1) := dk_100 (dk_at dksX0_carries_6 17 rfl rfl)
theorem dX0_carries_160 : decode cX0_carries 160 = .ok (.iaload, 1) := dk_46 (dk_at dksX0_carries_6 18 rfl rfl)
theorem dX0_carries_161 : decode cX0_carries 161 = .ok (.iadd, 1) := dk_96 (dk_at dksX0_carries_6 19 rfl rfl)
theorem dX0_carries_162 : decode cX0_carries 162 = .ok (.ldc_w 314, 3) := dk_19 1 58 (dk_at dksX0_carries_6 20 rfl rfl)
theorem dX0_carries_165 : decode cX0_carries 165 = .ok (.irem, 1) := dk_112 (dk_at dksX0_carries_6 23 rfl rfl)
theorem dX0_carries_166 : decode cX0_carries 166 = .ok (.iastore, 1) := dk_79 (dk_at dksX0_carries_7 0 rfl rfl)
theorem dX0_carries_167 : decode cX0_carries 167 = .ok (.iinc 6 (-1), 3) := dk_132 6 255 (dk_at dksX0_carries_7 1 rfl rfl)
theorem dX0_carries_170 : decode cX0_carries 170 = .ok (.goto (-50), 3) := dk_167 255 206 (dk_at dksX0_carries_7 4 rfl rfl)
theorem dX0_carries_173 : decode cX0_carries 173 = .ok (.iinc 5 (-1), 3) := dk_132 5 255 (dk_at dksX0_carries_7 7 rfl rfl)
theorem dX0_carries_176 : decode cX0_carries 176 = .ok (.goto (-64), 3) := dk_167 255 192 (dk_at dksX0_carries_7 10 rfl rfl)
theorem dX0_carries_179 : decode cX0_carries 179 = .ok (.iinc 3 1, 3) := dk_132 3 1 (dk_at dksX0_carries_7 13 rfl rfl)
theorem dX0_carries_182 : decode cX0_carries 182 = .ok (.goto (-106), 3) := dk_167 255 150 (dk_at dksX0_carries_7 16 rfl rfl)
theorem dX0_carries_185 : decode cX0_carries 185 = .ok (.aload_n 0, 1) := dk_42 (dk_at dksX0_carries_7 19 rfl rfl)
theorem dX0_carries_186 : decode cX0_carries 186 = .ok (.iload_n 1, 1) := dk_27 (dk_at dksX0_carries_7 20 rfl rfl)
theorem dX0_carries_187 : decode cX0_carries 187 = .ok (.invokevirtual 315, 3) := dk_182 1 59 (dk_at dksX0_carries_7 21 rfl rfl)
theorem dX0_carries_190 : decode cX0_carries 190 = .ok (.istore_n 3, 1) := dk_62 (dk_at dksX0_carries_8 0 rfl rfl)
theorem dX0_carries_191 : decode cX0_carries 191 = .ok (.iconst 0, 1) := dk_3 (dk_at dksX0_carries_8 1 rfl rfl)
theorem dX0_carries_192 : decode cX0_carries 192 = .ok (.istore 4, 2) := dk_54 4 (dk_at dksX0_carries_8 2 rfl rfl)
theorem dX0_carries_194 : decode cX0_carries 194 = .ok (.iconst 0, 1) := dk_3 (dk_at dksX0_carries_8 4 rfl rfl)
theorem dX0_carries_195 : decode cX0_carries 195 = .ok (.istore 5, 2) := dk_54 5 (dk_at dksX0_carries_8 5 rfl rfl)
theorem dX0_carries_197 : decode cX0_carries 197 = .ok (.iload 5, 2) := dk_21 5 (dk_at dksX0_carries_8 7 rfl rfl)
theorem dX0_carries_199 : decode cX0_carries 199 = .ok (.iload_n 1, 1) := dk_27 (dk_at dksX0_carries_8 9 rfl rfl)
theorem dX0_carries_200 : decode cX0_carries 200 = .ok (.if_icmp .gt 27, 3) := dk_163 0 27 (dk_at dksX0_carries_8 10 rfl rfl)
theorem dX0_carries_203 : decode cX0_carries 203 = .ok (.iload 4, 2) := dk_21 4 (dk_at dksX0_carries_8 13 rfl rfl)
theorem dX0_carries_205 : decode cX0_carries 205 = .ok (.aload_n 0, 1) := dk_42 (dk_at dksX0_carries_8 15 rfl rfl)
theorem dX0_carries_206 : decode cX0_carries 206 = .ok (.getfield 53, 3) := dk_180 0 53 (dk_at dksX0_carries_8 16 rfl rfl)
theorem dX0_carries_209 : decode cX0_carries 209 = .ok (.iload_n 3, 1) := dk_29 (dk_at dksX0_carries_8 19 rfl rfl)
theorem dX0_carries_210 : decode cX0_carries 210 = .ok (.aaload, 1) := dk_50 (dk_at dksX0_carries_8 20 rfl rfl)
theorem dX0_carries_211 : decode cX0_carries 211 = .ok (.iload 5, 2) := dk_21 5 (dk_at dksX0_carries_8 21 rfl rfl)
theorem dX0_carries_213 : decode cX0_carries 213 = .ok (.iaload, 1) := dk_46 (dk_at dksX0_carries_8 23 rfl rfl)
theorem dX0_carries_214 : decode cX0_carries 214 = .ok (.iadd, 1) := dk_96 (dk_at dksX0_carries_9 0 rfl rfl)
theorem dX0_carries_215 : decode cX0_carries 215 = .ok (.ldc_w 314, 3) := dk_19 1 58 (dk_at dksX0_carries_9 1 rfl rfl)
theorem dX0_carries_218 : decode cX0_carries 218 = .ok (.irem, 1) := dk_112 (dk_at dksX0_carries_9 4 rfl rfl)
theorem dX0_carries_219 : decode cX0_carries 219 = .ok (.istore 4, 2) := dk_54 4 (dk_at dksX0_carries_9 5 rfl rfl)
theorem dX0_carries_221 : decode cX0_carries 221 = .ok (.iinc 5 1, 3) := dk_132 5 1 (dk_at dksX0_carries_9 7 rfl rfl)
theorem dX0_carries_224 : decode cX0_carries 224 = .ok (.goto (-27), 3) := dk_167 255 229 (dk_at dksX0_carries_9 10 rfl rfl)
theorem dX0_carries_227 : decode cX0_carries 227 = .ok (.iload_n 2, 1) := dk_28 (dk_at dksX0_carries_9 13 rfl rfl)
theorem dX0_carries_228 : decode cX0_carries 228 = .ok (.ifCond .ne 7, 3) := dk_154 0 7 (dk_at dksX0_carries_9 14 rfl rfl)
theorem dX0_carries_231 : decode cX0_carries 231 = .ok (.iload_n 3, 1) := dk_29 (dk_at dksX0_carries_9 17 rfl rfl)
theorem dX0_carries_232 : decode cX0_carries 232 = .ok (.goto 5, 3) := dk_167 0 5 (dk_at dksX0_carries_9 18 rfl rfl)
theorem dX0_carries_235 : decode cX0_carries 235 = .ok (.iload 4, 2) := dk_21 4 (dk_at dksX0_carries_9 21 rfl rfl)
theorem dX0_carries_237 : decode cX0_carries 237 = .ok (.ireturn, 1) := dk_172 (dk_at dksX0_carries_9 23 rfl rfl)
abbrev cX0_manyWithin : ByteArray := prog_1_method_39_code
def yX0_manyWithin : MethodName := ⟨RX0, "manyWithin", "(I)I"⟩
def dkwX0_manyWithin_3 : List UInt8 := [132, 3, 1, 132, 5, 1, 167, 255, 200, 132, 4, 1, 167, 255, 184, 29, 172]
abbrev dktX0_manyWithin_3 : List UInt8 := dkwX0_manyWithin_3 ++ []
def dkwX0_manyWithin_2 : List UInt8 := [180, 0, 247, 21, 4, 160, 0, 20, 21, 4, 28, 164, 0, 6, 167, 0, 11, 28, 21, 4, 100, 61]
abbrev dktX0_manyWithin_2 : List UInt8 := dkwX0_manyWithin_2 ++ dktX0_manyWithin_3
def dkwX0_manyWithin_1 : List UInt8 := [180, 0, 195, 180, 0, 199, 162, 0, 47, 42, 180, 0, 20, 180, 0, 195, 180, 0, 235, 21, 5, 50]
abbrev dktX0_manyWithin_1 : List UInt8 := dkwX0_manyWithin_1 ++ dktX0_manyWithin_2
def dkwX0_manyWithin_0 : List UInt8 := [27, 61, 3, 62, 4, 54, 4, 21, 4, 16, 99, 163, 0, 71, 3, 54, 5, 21, 5, 42, 180, 0, 20]
abbrev dktX0_manyWithin_0 : List UInt8 := dkwX0_manyWithin_0 ++ dktX0_manyWithin_1
theorem dksX0_manyWithin_0 : cX0_manyWithin.data.toList.drop 0 = dktX0_manyWithin_0 := by decide +kernel
theorem dksX0_manyWithin_1 : cX0_manyWithin.data.toList.drop 23 = dktX0_manyWithin_1 := dk_seg dksX0_manyWithin_0 23 rfl rfl
theorem dksX0_manyWithin_2 : cX0_manyWithin.data.toList.drop 45 = dktX0_manyWithin_2 := dk_seg dksX0_manyWithin_1 22 rfl rfl
theorem dksX0_manyWithin_3 : cX0_manyWithin.data.toList.drop 67 = dktX0_manyWithin_3 := dk_seg dksX0_manyWithin_2 22 rfl rfl
theorem dX0_manyWithin_0 : decode cX0_manyWithin 0 = .ok (.iload_n 1, 1) := dk_27 (dk_at dksX0_manyWithin_0 0 rfl rfl)
theorem dX0_manyWithin_1 : decode cX0_manyWithin 1 = .ok (.istore_n 2, 1) := dk_61 (dk_at dksX0_manyWithin_0 1 rfl rfl)
theorem dX0_manyWithin_2 : decode cX0_manyWithin 2 = .ok (.iconst 0, 1) := dk_3 (dk_at dksX0_manyWithin_0 2 rfl rfl)
theorem dX0_manyWithin_3 : decode cX0_manyWithin 3 = .ok (.istore_n 3, 1) := dk_62 (dk_at dksX0_manyWithin_0 3 rfl rfl)
theorem dX0_manyWithin_4 : decode cX0_manyWithin 4 = .ok (.iconst 1, 1) := dk_4 (dk_at dksX0_manyWithin_0 4 rfl rfl)
theorem dX0_manyWithin_5 : decode cX0_manyWithin 5 = .ok (.istore 4, 2) := dk_54 4 (dk_at dksX0_manyWithin_0 5 rfl rfl)
theorem dX0_manyWithin_7 : decode cX0_manyWithin 7 = .ok (.iload 4, 2) := dk_21 4 (dk_at dksX0_manyWithin_0 7 rfl rfl)
theorem dX0_manyWithin_9 : decode cX0_manyWithin 9 = .ok (.bipush 99, 2) := dk_16 99 (dk_at dksX0_manyWithin_0 9 rfl rfl)
theorem dX0_manyWithin_11 : decode cX0_manyWithin 11 = .ok (.if_icmp .gt 71, 3) := dk_163 0 71 (dk_at dksX0_manyWithin_0 11 rfl rfl)
theorem dX0_manyWithin_14 : decode cX0_manyWithin 14 = .ok (.iconst 0, 1) := dk_3 (dk_at dksX0_manyWithin_0 14 rfl rfl)
theorem dX0_manyWithin_15 : decode cX0_manyWithin 15 = .ok (.istore 5, 2) := dk_54 5 (dk_at dksX0_manyWithin_0 15 rfl rfl)
theorem dX0_manyWithin_17 : decode cX0_manyWithin 17 = .ok (.iload 5, 2) := dk_21 5 (dk_at dksX0_manyWithin_0 17 rfl rfl)
theorem dX0_manyWithin_19 : decode cX0_manyWithin 19 = .ok (.aload_n 0, 1) := dk_42 (dk_at dksX0_manyWithin_0 19 rfl rfl)
theorem dX0_manyWithin_20 : decode cX0_manyWithin 20 = .ok (.getfield 20, 3) := dk_180 0 20 (dk_at dksX0_manyWithin_0 20 rfl rfl)
theorem dX0_manyWithin_23 : decode cX0_manyWithin 23 = .ok (.getfield 195, 3) := dk_180 0 195 (dk_at dksX0_manyWithin_1 0 rfl rfl)
theorem dX0_manyWithin_26 : decode cX0_manyWithin 26 = .ok (.getfield 199, 3) := dk_180 0 199 (dk_at dksX0_manyWithin_1 3 rfl rfl)
theorem dX0_manyWithin_29 : decode cX0_manyWithin 29 = .ok (.if_icmp .ge 47, 3) := dk_162 0 47 (dk_at dksX0_manyWithin_1 6 rfl rfl)
theorem dX0_manyWithin_32 : decode cX0_manyWithin 32 = .ok (.aload_n 0, 1) := dk_42 (dk_at dksX0_manyWithin_1 9 rfl rfl)
theorem dX0_manyWithin_33 : decode cX0_manyWithin 33 = .ok (.getfield 20, 3) := dk_180 0 20 (dk_at dksX0_manyWithin_1 10 rfl rfl)
theorem dX0_manyWithin_36 : decode cX0_manyWithin 36 = .ok (.getfield 195, 3) := dk_180 0 195 (dk_at dksX0_manyWithin_1 13 rfl rfl)
theorem dX0_manyWithin_39 : decode cX0_manyWithin 39 = .ok (.getfield 235, 3) := dk_180 0 235 (dk_at dksX0_manyWithin_1 16 rfl rfl)
theorem dX0_manyWithin_42 : decode cX0_manyWithin 42 = .ok (.iload 5, 2) := dk_21 5 (dk_at dksX0_manyWithin_1 19 rfl rfl)
theorem dX0_manyWithin_44 : decode cX0_manyWithin 44 = .ok (.aaload, 1) := dk_50 (dk_at dksX0_manyWithin_1 21 rfl rfl)
theorem dX0_manyWithin_45 : decode cX0_manyWithin 45 = .ok (.getfield 247, 3) := dk_180 0 247 (dk_at dksX0_manyWithin_2 0 rfl rfl)
theorem dX0_manyWithin_48 : decode cX0_manyWithin 48 = .ok (.iload 4, 2) := dk_21 4 (dk_at dksX0_manyWithin_2 3 rfl rfl)
theorem dX0_manyWithin_50 : decode cX0_manyWithin 50 = .ok (.if_icmp .ne 20, 3) := dk_160 0 20 (dk_at dksX0_manyWithin_2 5 rfl rfl)
theorem dX0_manyWithin_53 : decode cX0_manyWithin 53 = .ok (.iload 4, 2) := dk_21 4 (dk_at dksX0_manyWithin_2 8 rfl rfl)
theorem dX0_manyWithin_55 : decode cX0_manyWithin 55 = .ok (.iload_n 2, 1) := dk_28 (dk_at dksX0_manyWithin_2 10 rfl rfl)
theorem dX0_manyWithin_56 : decode cX0_manyWithin 56 = .ok (.if_icmp .le 6, 3) := dk_164 0 6 (dk_at dksX0_manyWithin_2 11 rfl rfl)
theorem dX0_manyWithin_59 : decode cX0_manyWithin 59 = .ok (.goto 11, 3) := dk_167 0 11 (dk_at dksX0_manyWithin_2 14 rfl rfl)
theorem dX0_manyWithin_62 : decode cX0_manyWithin 62 = .ok (.iload_n 2, 1) := dk_28 (dk_at dksX0_manyWithin_2 17 rfl rfl)
theorem dX0_manyWithin_63 : decode cX0_manyWithin 63 = .ok (.iload 4, 2) := dk_21 4 (dk_at dksX0_manyWithin_2 18 rfl rfl)
theorem dX0_manyWithin_65 : decode cX0_manyWithin 65 = .ok (.isub, 1) := dk_100 (dk_at dksX0_manyWithin_2 20 rfl rfl)
theorem dX0_manyWithin_66 : decode cX0_manyWithin 66 = .ok (.istore_n 2, 1) := dk_61 (dk_at dksX0_manyWithin_2 21 rfl rfl)
theorem dX0_manyWithin_67 : decode cX0_manyWithin 67 = .ok (.iinc 3 1, 3) := dk_132 3 1 (dk_at dksX0_manyWithin_3 0 rfl rfl)
theorem dX0_manyWithin_70 : decode cX0_manyWithin 70 = .ok (.iinc 5 1, 3) := dk_132 5 1 (dk_at dksX0_manyWithin_3 3 rfl rfl)
theorem dX0_manyWithin_73 : decode cX0_manyWithin 73 = .ok (.goto (-56), 3) := dk_167 255 200 (dk_at dksX0_manyWithin_3 6 rfl rfl)
theorem dX0_manyWithin_76 : decode cX0_manyWithin 76 = .ok (.iinc 4 1, 3) := dk_132 4 1 (dk_at dksX0_manyWithin_3 9 rfl rfl)
theorem dX0_manyWithin_79 : decode cX0_manyWithin 79 = .ok (.goto (-72), 3) := dk_167 255 184 (dk_at dksX0_manyWithin_3 12 rfl rfl)
theorem dX0_manyWithin_82 : decode cX0_manyWithin 82 = .ok (.iload_n 3, 1) := dk_29 (dk_at dksX0_manyWithin_3 15 rfl rfl)
theorem dX0_manyWithin_83 : decode cX0_manyWithin 83 = .ok (.ireturn, 1) := dk_172 (dk_at dksX0_manyWithin_3 16 rfl rfl)
abbrev cX0_owes : ByteArray := prog_1_method_40_code
def yX0_owes : MethodName := ⟨RX0, "owes", "(III)I"⟩
def dkwX0_owes_3 : List UInt8 := [2, 172]
abbrev dktX0_owes_3 : List UInt8 := dkwX0_owes_3 ++ []
def dkwX0_owes_2 : List UInt8 := [16, 99, 184, 0, 78, 153, 0, 19, 42, 180, 0, 20, 180, 1, 62, 27, 28, 29, 182, 1, 42, 167, 0, 4]
abbrev dktX0_owes_2 : List UInt8 := dkwX0_owes_2 ++ dktX0_owes_3
def dkwX0_owes_1 : List UInt8 := [184, 0, 78, 153, 0, 44, 28, 3, 16, 11, 184, 0, 78, 153, 0, 34, 27, 28, 159, 0, 29, 29, 4]
abbrev dktX0_owes_1 : List UInt8 := dkwX0_owes_1 ++ dktX0_owes_2
def dkwX0_owes_0 : List UInt8 := [27, 2, 160, 0, 16, 42, 180, 0, 20, 180, 1, 62, 182, 1, 37, 167, 0, 55, 27, 3, 16, 11]
abbrev dktX0_owes_0 : List UInt8 := dkwX0_owes_0 ++ dktX0_owes_1
theorem dksX0_owes_0 : cX0_owes.data.toList.drop 0 = dktX0_owes_0 := by decide +kernel
theorem dksX0_owes_1 : cX0_owes.data.toList.drop 22 = dktX0_owes_1 := dk_seg dksX0_owes_0 22 rfl rfl
theorem dksX0_owes_2 : cX0_owes.data.toList.drop 45 = dktX0_owes_2 := dk_seg dksX0_owes_1 23 rfl rfl
theorem dksX0_owes_3 : cX0_owes.data.toList.drop 69 = dktX0_owes_3 := dk_seg dksX0_owes_2 24 rfl rfl
theorem dX0_owes_0 : decode cX0_owes 0 = .ok (.iload_n 1, 1) := dk_27 (dk_at dksX0_owes_0 0 rfl rfl)
theorem dX0_owes_1 : decode cX0_owes 1 = .ok (.iconst (-1), 1) := dk_2 (dk_at dksX0_owes_0 1 rfl rfl)
theorem dX0_owes_2 : decode cX0_owes 2 = .ok (.if_icmp .ne 16, 3) := dk_160 0 16 (dk_at dksX0_owes_0 2 rfl rfl)
theorem dX0_owes_5 : decode cX0_owes 5 = .ok (.aload_n 0, 1) := dk_42 (dk_at dksX0_owes_0 5 rfl rfl)
theorem dX0_owes_6 : decode cX0_owes 6 = .ok (.getfield 20, 3) := dk_180 0 20 (dk_at dksX0_owes_0 6 rfl rfl)
theorem dX0_owes_9 : decode cX0_owes 9 = .ok (.getfield 318, 3) := dk_180 1 62 (dk_at dksX0_owes_0 9 rfl rfl)
theorem dX0_owes_12 : decode cX0_owes 12 = .ok (.invokevirtual 293, 3) := dk_182 1 37 (dk_at dksX0_owes_0 12 rfl rfl)
theorem dX0_owes_15 : decode cX0_owes 15 = .ok (.goto 55, 3) := dk_167 0 55 (dk_at dksX0_owes_0 15 rfl rfl)
theorem dX0_owes_18 : decode cX0_owes 18 = .ok (.iload_n 1, 1) := dk_27 (dk_at dksX0_owes_0 18 rfl rfl)
theorem dX0_owes_19 : decode cX0_owes 19 = .ok (.iconst 0, 1) := dk_3 (dk_at dksX0_owes_0 19 rfl rfl)
theorem dX0_owes_20 : decode cX0_owes 20 = .ok (.bipush 11, 2) := dk_16 11 (dk_at dksX0_owes_0 20 rfl rfl)
theorem dX0_owes_22 : decode cX0_owes 22 = .ok (.invokestatic 78, 3) := dk_184 0 78 (dk_at dksX0_owes_1 0 rfl rfl)
theorem dX0_owes_25 : decode cX0_owes 25 = .ok (.ifCond .eq 44, 3) := dk_153 0 44 (dk_at dksX0_owes_1 3 rfl rfl)
theorem dX0_owes_28 : decode cX0_owes 28 = .ok (.iload_n 2, 1) := dk_28 (dk_at dksX0_owes_1 6 rfl rfl)
theorem dX0_owes_29 : decode cX0_owes 29 = .ok (.iconst 0, 1) := dk_3 (dk_at dksX0_owes_1 7 rfl rfl)
theorem dX0_owes_30 : decode cX0_owes 30 = .ok (.bipush 11, 2) := dk_16 11 (dk_at dksX0_owes_1 8 rfl rfl)
theorem dX0_owes_32 : decode cX0_owes 32 = .ok (.invokestatic 78, 3) := dk_184 0 78 (dk_at dksX0_owes_1 10 rfl rfl)
theorem dX0_owes_35 : decode cX0_owes 35 = .ok (.ifCond .eq 34, 3) := dk_153 0 34 (dk_at dksX0_owes_1 13 rfl rfl)
theorem dX0_owes_38 : decode cX0_owes 38 = .ok (.iload_n 1, 1) := dk_27 (dk_at dksX0_owes_1 16 rfl rfl)
theorem dX0_owes_39 : decode cX0_owes 39 = .ok (.iload_n 2, 1) := dk_28 (dk_at dksX0_owes_1 17 rfl rfl)
theorem dX0_owes_40 : decode cX0_owes 40 = .ok (.if_icmp .eq 29, 3) := dk_159 0 29 (dk_at dksX0_owes_1 18 rfl rfl)
theorem dX0_owes_43 : decode cX0_owes 43 = .ok (.iload_n 3, 1) := dk_29 (dk_at dksX0_owes_1 21 rfl rfl)
theorem dX0_owes_44 : decode cX0_owes 44 = .ok (.iconst 1, 1) := dk_4 (dk_at dksX0_owes_1 22 rfl rfl)
theorem dX0_owes_45 : decode cX0_owes 45 = .ok (.bipush 99, 2) := dk_16 99 (dk_at dksX0_owes_2 0 rfl rfl)
theorem dX0_owes_47 : decode cX0_owes 47 = .ok (.invokestatic 78, 3) := dk_184 0 78 (dk_at dksX0_owes_2 2 rfl rfl)
theorem dX0_owes_50 : decode cX0_owes 50 = .ok (.ifCond .eq 19, 3) := dk_153 0 19 (dk_at dksX0_owes_2 5 rfl rfl)
theorem dX0_owes_53 : decode cX0_owes 53 = .ok (.aload_n 0, 1) := dk_42 (dk_at dksX0_owes_2 8 rfl rfl)
theorem dX0_owes_54 : decode cX0_owes 54 = .ok (.getfield 20, 3) := dk_180 0 20 (dk_at dksX0_owes_2 9 rfl rfl)
theorem dX0_owes_57 : decode cX0_owes 57 = .ok (.getfield 318, 3) := dk_180 1 62 (dk_at dksX0_owes_2 12 rfl rfl)
theorem dX0_owes_60 : decode cX0_owes 60 = .ok (.iload_n 1, 1) := dk_27 (dk_at dksX0_owes_2 15 rfl rfl)
theorem dX0_owes_61 : decode cX0_owes 61 = .ok (.iload_n 2, 1) := dk_28 (dk_at dksX0_owes_2 16 rfl rfl)
theorem dX0_owes_62 : decode cX0_owes 62 = .ok (.iload_n 3, 1) := dk_29 (dk_at dksX0_owes_2 17 rfl rfl)
theorem dX0_owes_63 : decode cX0_owes 63 = .ok (.invokevirtual 298, 3) := dk_182 1 42 (dk_at dksX0_owes_2 18 rfl rfl)
theorem dX0_owes_66 : decode cX0_owes 66 = .ok (.goto 4, 3) := dk_167 0 4 (dk_at dksX0_owes_2 21 rfl rfl)
theorem dX0_owes_69 : decode cX0_owes 69 = .ok (.iconst (-1), 1) := dk_2 (dk_at dksX0_owes_3 0 rfl rfl)
theorem dX0_owes_70 : decode cX0_owes 70 = .ok (.ireturn, 1) := dk_172 (dk_at dksX0_owes_3 1 rfl rfl)
abbrev cX0_net : ByteArray := prog_1_method_43_code
def yX0_net : MethodName := ⟨RX0, "net", "(I)I"⟩
def dkwX0_net_1 : List UInt8 := [27, 120, 182, 1, 65, 167, 0, 6, 17, 216, 240, 172]
abbrev dktX0_net_1 : List UInt8 := dkwX0_net_1 ++ []
def dkwX0_net_0 : List UInt8 := [27, 2, 160, 0, 10, 42, 182, 1, 68, 167, 0, 26, 27, 3, 16, 11, 184, 0, 78, 153, 0, 13, 42, 4]
abbrev dktX0_net_0 : List UInt8 := dkwX0_net_0 ++ dktX0_net_1
theorem dksX0_net_0 : cX0_net.data.toList.drop 0 = dktX0_net_0 := by decide +kernel
theorem dksX0_net_1 : cX0_net.data.toList.drop 24 = dktX0_net_1 := dk_seg dksX0_net_0 24 rfl rfl
theorem dX0_net_0 : decode cX0_net 0 = .ok (.iload_n 1, 1) := dk_27 (dk_at dksX0_net_0 0 rfl rfl)
theorem dX0_net_1 : decode cX0_net 1 = .ok (.iconst (-1), 1) := dk_2 (dk_at dksX0_net_0 1 rfl rfl)
theorem dX0_net_2 : decode cX0_net 2 = .ok (.if_icmp .ne 10, 3) := dk_160 0 10 (dk_at dksX0_net_0 2 rfl rfl)
theorem dX0_net_5 : decode cX0_net 5 = .ok (.aload_n 0, 1) := dk_42 (dk_at dksX0_net_0 5 rfl rfl)
theorem dX0_net_6 : decode cX0_net 6 = .ok (.invokevirtual 324, 3) := dk_182 1 68 (dk_at dksX0_net_0 6 rfl rfl)
theorem dX0_net_9 : decode cX0_net 9 = .ok (.goto 26, 3) := dk_167 0 26 (dk_at dksX0_net_0 9 rfl rfl)
theorem dX0_net_12 : decode cX0_net 12 = .ok (.iload_n 1, 1) := dk_27 (dk_at dksX0_net_0 12 rfl rfl)
theorem dX0_net_13 : decode cX0_net 13 = .ok (.iconst 0, 1) := dk_3 (dk_at dksX0_net_0 13 rfl rfl)
theorem dX0_net_14 : decode cX0_net 14 = .ok (.bipush 11, 2) := dk_16 11 (dk_at dksX0_net_0 14 rfl rfl)
theorem dX0_net_16 : decode cX0_net 16 = .ok (.invokestatic 78, 3) := dk_184 0 78 (dk_at dksX0_net_0 16 rfl rfl)
theorem dX0_net_19 : decode cX0_net 19 = .ok (.ifCond .eq 13, 3) := dk_153 0 13 (dk_at dksX0_net_0 19 rfl rfl)
theorem dX0_net_22 : decode cX0_net 22 = .ok (.aload_n 0, 1) := dk_42 (dk_at dksX0_net_0 22 rfl rfl)
theorem dX0_net_23 : decode cX0_net 23 = .ok (.iconst 1, 1) := dk_4 (dk_at dksX0_net_0 23 rfl rfl)
theorem dX0_net_24 : decode cX0_net 24 = .ok (.iload_n 1, 1) := dk_27 (dk_at dksX0_net_1 0 rfl rfl)
theorem dX0_net_25 : decode cX0_net 25 = .ok (.ishl, 1) := dk_120 (dk_at dksX0_net_1 1 rfl rfl)
theorem dX0_net_26 : decode cX0_net 26 = .ok (.invokevirtual 321, 3) := dk_182 1 65 (dk_at dksX0_net_1 2 rfl rfl)
theorem dX0_net_29 : decode cX0_net 29 = .ok (.goto 6, 3) := dk_167 0 6 (dk_at dksX0_net_1 5 rfl rfl)
theorem dX0_net_32 : decode cX0_net 32 = .ok (.sipush (-10000), 3) := dk_17 216 240 (dk_at dksX0_net_1 8 rfl rfl)
theorem dX0_net_35 : decode cX0_net 35 = .ok (.ireturn, 1) := dk_172 (dk_at dksX0_net_1 11 rfl rfl)
abbrev cX0_fewest : ByteArray := prog_1_method_42_code
def yX0_fewest : MethodName := ⟨RX0, "fewest", "()I"⟩
def dkwX0_fewest_6 : List UInt8 := [167, 255, 154, 27, 184, 1, 47, 42, 180, 0, 56, 27, 46, 100, 172]
abbrev dktX0_fewest_6 : List UInt8 := dkwX0_fewest_6 ++ []
def dkwX0_fewest_5 : List UInt8 := [180, 0, 56, 28, 92, 46, 42, 28, 182, 1, 65, 154, 0, 7, 4, 167, 0, 4, 3, 96, 79, 132, 2, 1]
abbrev dktX0_fewest_5 : List UInt8 := dkwX0_fewest_5 ++ dktX0_fewest_6
def dkwX0_fewest_4 : List UInt8 := [46, 42, 180, 0, 56, 28, 4, 29, 120, 2, 130, 126, 46, 184, 0, 68, 79, 132, 3, 1, 167, 255, 211, 42]
abbrev dktX0_fewest_4 : List UInt8 := dkwX0_fewest_4 ++ dktX0_fewest_5
def dkwX0_fewest_3 : List UInt8 := [16, 12, 162, 0, 45, 28, 29, 122, 4, 126, 4, 160, 0, 30, 42, 180, 0, 56, 28, 42, 180, 0, 56, 28]
abbrev dktX0_fewest_3 : List UInt8 := dkwX0_fewest_3 ++ dktX0_fewest_4
def dkwX0_fewest_2 : List UInt8 := [180, 0, 56, 28, 3, 79, 28, 153, 0, 86, 28, 27, 2, 130, 126, 153, 0, 6, 167, 0, 75, 3, 62, 29]
abbrev dktX0_fewest_2 : List UInt8 := dkwX0_fewest_2 ++ dktX0_fewest_3
def dkwX0_fewest_1 : List UInt8 := [167, 0, 6, 4, 28, 120, 128, 60, 132, 2, 1, 167, 255, 227, 3, 61, 28, 27, 163, 0, 103, 42]
abbrev dktX0_fewest_1 : List UInt8 := dkwX0_fewest_1 ++ dktX0_fewest_2
def dkwX0_fewest_0 : List UInt8 := [3, 60, 3, 61, 28, 16, 12, 162, 0, 29, 27, 42, 4, 28, 120, 182, 1, 65, 154, 0, 7, 3]
abbrev dktX0_fewest_0 : List UInt8 := dkwX0_fewest_0 ++ dktX0_fewest_1
theorem dksX0_fewest_0 : cX0_fewest.data.toList.drop 0 = dktX0_fewest_0 := by decide +kernel
theorem dksX0_fewest_1 : cX0_fewest.data.toList.drop 22 = dktX0_fewest_1 := dk_seg dksX0_fewest_0 22 rfl rfl
theorem dksX0_fewest_2 : cX0_fewest.data.toList.drop 44 = dktX0_fewest_2 := dk_seg dksX0_fewest_1 22 rfl rfl
theorem dksX0_fewest_3 : cX0_fewest.data.toList.drop 68 = dktX0_fewest_3 := dk_seg dksX0_fewest_2 24 rfl rfl
theorem dksX0_fewest_4 : cX0_fewest.data.toList.drop 92 = dktX0_fewest_4 := dk_seg dksX0_fewest_3 24 rfl rfl
theorem dksX0_fewest_5 : cX0_fewest.data.toList.drop 116 = dktX0_fewest_5 := dk_seg dksX0_fewest_4 24 rfl rfl
theorem dksX0_fewest_6 : cX0_fewest.data.toList.drop 140 = dktX0_fewest_6 := dk_seg dksX0_fewest_5 24 rfl rfl
theorem dX0_fewest_0 : decode cX0_fewest 0 = .ok (.iconst 0, 1) := dk_3 (dk_at dksX0_fewest_0 0 rfl rfl)
theorem dX0_fewest_1 : decode cX0_fewest 1 = .ok (.istore_n 1, 1) := dk_60 (dk_at dksX0_fewest_0 1 rfl rfl)
theorem dX0_fewest_2 : decode cX0_fewest 2 = .ok (.iconst 0, 1) := dk_3 (dk_at dksX0_fewest_0 2 rfl rfl)
theorem dX0_fewest_3 : decode cX0_fewest 3 = .ok (.istore_n 2, 1) := dk_61 (dk_at dksX0_fewest_0 3 rfl rfl)
theorem dX0_fewest_4 : decode cX0_fewest 4 = .ok (.iload_n 2, 1) := dk_28 (dk_at dksX0_fewest_0 4 rfl rfl)
theorem dX0_fewest_5 : decode cX0_fewest 5 = .ok (.bipush 12, 2) := dk_16 12 (dk_at dksX0_fewest_0 5 rfl rfl)
theorem dX0_fewest_7 : decode cX0_fewest 7 = .ok (.if_icmp .ge 29, 3) := dk_162 0 29 (dk_at dksX0_fewest_0 7 rfl rfl)
theorem dX0_fewest_10 : decode cX0_fewest 10 = .ok (.iload_n 1, 1) := dk_27 (dk_at dksX0_fewest_0 10 rfl rfl)
theorem dX0_fewest_11 : decode cX0_fewest 11 = .ok (.aload_n 0, 1) := dk_42 (dk_at dksX0_fewest_0 11 rfl rfl)
theorem dX0_fewest_12 : decode cX0_fewest 12 = .ok (.iconst 1, 1) := dk_4 (dk_at dksX0_fewest_0 12 rfl rfl)
theorem dX0_fewest_13 : decode cX0_fewest 13 = .ok (.iload_n 2, 1) := dk_28 (dk_at dksX0_fewest_0 13 rfl rfl)
theorem dX0_fewest_14 : decode cX0_fewest 14 = .ok (.ishl, 1) := dk_120 (dk_at dksX0_fewest_0 14 rfl rfl)
theorem dX0_fewest_15 : decode cX0_fewest 15 = .ok (.invokevirtual 321, 3) := dk_182 1 65 (dk_at dksX0_fewest_0 15 rfl rfl)
theorem dX0_fewest_18 : decode cX0_fewest 18 = .ok (.ifCond .ne 7, 3) := dk_154 0 7 (dk_at dksX0_fewest_0 18 rfl rfl)
theorem dX0_fewest_21 : decode cX0_fewest 21 = .ok (.iconst 0, 1) := dk_3 (dk_at dksX0_fewest_0 21 rfl rfl)
theorem dX0_fewest_22 : decode cX0_fewest 22 = .ok (.goto 6, 3) := dk_167 0 6 (dk_at dksX0_fewest_1 0 rfl rfl)
theorem dX0_fewest_25 : decode cX0_fewest 25 = .ok (.iconst 1, 1) := dk_4 (dk_at dksX0_fewest_1 3 rfl rfl)
theorem dX0_fewest_26 : decode cX0_fewest 26 = .ok (.iload_n 2, 1) := dk_28 (dk_at dksX0_fewest_1 4 rfl rfl)
theorem dX0_fewest_27 : decode cX0_fewest 27 = .ok (.ishl, 1) := dk_120 (dk_at dksX0_fewest_1 5 rfl rfl)
theorem dX0_fewest_28 : decode cX0_fewest 28 = .ok (.ior, 1) := dk_128 (dk_at dksX0_fewest_1 6 rfl rfl)
theorem dX0_fewest_29 : decode cX0_fewest 29 = .ok (.istore_n 1, 1) := dk_60 (dk_at dksX0_fewest_1 7 rfl rfl)
theorem dX0_fewest_30 : decode cX0_fewest 30 = .ok (.iinc 2 1, 3) := dk_132 2 1 (dk_at dksX0_fewest_1 8 rfl rfl)
theorem dX0_fewest_33 : decode cX0_fewest 33 = .ok (.goto (-29), 3) := dk_167 255 227 (dk_at dksX0_fewest_1 11 rfl rfl)
theorem dX0_fewest_36 : decode cX0_fewest 36 = .ok (.iconst 0, 1) := dk_3 (dk_at dksX0_fewest_1 14 rfl rfl)
theorem dX0_fewest_37 : decode cX0_fewest 37 = .ok (.istore_n 2, 1) := dk_61 (dk_at dksX0_fewest_1 15 rfl rfl)
theorem dX0_fewest_38 : decode cX0_fewest 38 = .ok (.iload_n 2, 1) := dk_28 (dk_at dksX0_fewest_1 16 rfl rfl)
theorem dX0_fewest_39 : decode cX0_fewest 39 = .ok (.iload_n 1, 1) := dk_27 (dk_at dksX0_fewest_1 17 rfl rfl)
theorem dX0_fewest_40 : decode cX0_fewest 40 = .ok (.if_icmp .gt 103, 3) := dk_163 0 103 (dk_at dksX0_fewest_1 18 rfl rfl)
theorem dX0_fewest_43 : decode cX0_fewest 43 = .ok (.aload_n 0, 1) := dk_42 (dk_at dksX0_fewest_1 21 rfl rfl)
theorem dX0_fewest_44 : decode cX0_fewest 44 = .ok (.getfield 56, 3) := dk_180 0 56 (dk_at dksX0_fewest_2 0 rfl rfl)
theorem dX0_fewest_47 : decode cX0_fewest 47 = .ok (.iload_n 2, 1) := dk_28 (dk_at dksX0_fewest_2 3 rfl rfl)
theorem dX0_fewest_48 : decode cX0_fewest 48 = .ok (.iconst 0, 1) := dk_3 (dk_at dksX0_fewest_2 4 rfl rfl)
theorem dX0_fewest_49 : decode cX0_fewest 49 = .ok (.iastore, 1) := dk_79 (dk_at dksX0_fewest_2 5 rfl rfl)
theorem dX0_fewest_50 : decode cX0_fewest 50 = .ok (.iload_n 2, 1) := dk_28 (dk_at dksX0_fewest_2 6 rfl rfl)
theorem dX0_fewest_51 : decode cX0_fewest 51 = .ok (.ifCond .eq 86, 3) := dk_153 0 86 (dk_at dksX0_fewest_2 7 rfl rfl)
theorem dX0_fewest_54 : decode cX0_fewest 54 = .ok (.iload_n 2, 1) := dk_28 (dk_at dksX0_fewest_2 10 rfl rfl)
theorem dX0_fewest_55 : decode cX0_fewest 55 = .ok (.iload_n 1, 1) := dk_27 (dk_at dksX0_fewest_2 11 rfl rfl)
theorem dX0_fewest_56 : decode cX0_fewest 56 = .ok (.iconst (-1), 1) := dk_2 (dk_at dksX0_fewest_2 12 rfl rfl)
theorem dX0_fewest_57 : decode cX0_fewest 57 = .ok (.ixor, 1) := dk_130 (dk_at dksX0_fewest_2 13 rfl rfl)
theorem dX0_fewest_58 : decode cX0_fewest 58 = .ok (.iand, 1) := dk_126 (dk_at dksX0_fewest_2 14 rfl rfl)
theorem dX0_fewest_59 : decode cX0_fewest 59 = .ok (.ifCond .eq 6, 3) := dk_153 0 6 (dk_at dksX0_fewest_2 15 rfl rfl)
theorem dX0_fewest_62 : decode cX0_fewest 62 = .ok (.goto 75, 3) := dk_167 0 75 (dk_at dksX0_fewest_2 18 rfl rfl)
theorem dX0_fewest_65 : decode cX0_fewest 65 = .ok (.iconst 0, 1) := dk_3 (dk_at dksX0_fewest_2 21 rfl rfl)
theorem dX0_fewest_66 : decode cX0_fewest 66 = .ok (.istore_n 3, 1) := dk_62 (dk_at dksX0_fewest_2 22 rfl rfl)
theorem dX0_fewest_67 : decode cX0_fewest 67 = .ok (.iload_n 3, 1) := dk_29 (dk_at dksX0_fewest_2 23 rfl rfl)
theorem dX0_fewest_68 : decode cX0_fewest 68 = .ok (.bipush 12, 2) := dk_16 12 (dk_at dksX0_fewest_3 0 rfl rfl)
theorem dX0_fewest_70 : decode cX0_fewest 70 = .ok (.if_icmp .ge 45, 3) := dk_162 0 45 (dk_at dksX0_fewest_3 2 rfl rfl)
theorem dX0_fewest_73 : decode cX0_fewest 73 = .ok (.iload_n 2, 1) := dk_28 (dk_at dksX0_fewest_3 5 rfl rfl)
theorem dX0_fewest_74 : decode cX0_fewest 74 = .ok (.iload_n 3, 1) := dk_29 (dk_at dksX0_fewest_3 6 rfl rfl)
theorem dX0_fewest_75 : decode cX0_fewest 75 = .ok (.ishr, 1) := dk_122 (dk_at dksX0_fewest_3 7 rfl rfl)
theorem dX0_fewest_76 : decode cX0_fewest 76 = .ok (.iconst 1, 1) := dk_4 (dk_at dksX0_fewest_3 8 rfl rfl)
theorem dX0_fewest_77 : decode cX0_fewest 77 = .ok (.iand, 1) := dk_126 (dk_at dksX0_fewest_3 9 rfl rfl)
theorem dX0_fewest_78 : decode cX0_fewest 78 = .ok (.iconst 1, 1) := dk_4 (dk_at dksX0_fewest_3 10 rfl rfl)
theorem dX0_fewest_79 : decode cX0_fewest 79 = .ok (.if_icmp .ne 30, 3) := dk_160 0 30 (dk_at dksX0_fewest_3 11 rfl rfl)
theorem dX0_fewest_82 : decode cX0_fewest 82 = .ok (.aload_n 0, 1) := dk_42 (dk_at dksX0_fewest_3 14 rfl rfl)
theorem dX0_fewest_83 : decode cX0_fewest 83 = .ok (.getfield 56, 3) := dk_180 0 56 (dk_at dksX0_fewest_3 15 rfl rfl)
theorem dX0_fewest_86 : decode cX0_fewest 86 = .ok (.iload_n 2, 1) := dk_28 (dk_at dksX0_fewest_3 18 rfl rfl)
theorem dX0_fewest_87 : decode cX0_fewest 87 = .ok (.aload_n 0, 1) := dk_42 (dk_at dksX0_fewest_3 19 rfl rfl)
theorem dX0_fewest_88 : decode cX0_fewest 88 = .ok (.getfield 56, 3) := dk_180 0 56 (dk_at dksX0_fewest_3 20 rfl rfl)
theorem dX0_fewest_91 : decode cX0_fewest 91 = .ok (.iload_n 2, 1) := dk_28 (dk_at dksX0_fewest_3 23 rfl rfl)
theorem dX0_fewest_92 : decode cX0_fewest 92 = .ok (.iaload, 1) := dk_46 (dk_at dksX0_fewest_4 0 rfl rfl)
theorem dX0_fewest_93 : decode cX0_fewest 93 = .ok (.aload_n 0, 1) := dk_42 (dk_at dksX0_fewest_4 1 rfl rfl)
theorem dX0_fewest_94 : decode cX0_fewest 94 = .ok (.getfield 56, 3) := dk_180 0 56 (dk_at dksX0_fewest_4 2 rfl rfl)
theorem dX0_fewest_97 : decode cX0_fewest 97 = .ok (.iload_n 2, 1) := dk_28 (dk_at dksX0_fewest_4 5 rfl rfl)
theorem dX0_fewest_98 : decode cX0_fewest 98 = .ok (.iconst 1, 1) := dk_4 (dk_at dksX0_fewest_4 6 rfl rfl)
theorem dX0_fewest_99 : decode cX0_fewest 99 = .ok (.iload_n 3, 1) := dk_29 (dk_at dksX0_fewest_4 7 rfl rfl)
theorem dX0_fewest_100 : decode cX0_fewest 100 = .ok (.ishl, 1) := dk_120 (dk_at dksX0_fewest_4 8 rfl rfl)
theorem dX0_fewest_101 : decode cX0_fewest 101 = .ok (.iconst (-1), 1) := dk_2 (dk_at dksX0_fewest_4 9 rfl rfl)
theorem dX0_fewest_102 : decode cX0_fewest 102 = .ok (.ixor, 1) := dk_130 (dk_at dksX0_fewest_4 10 rfl rfl)
theorem dX0_fewest_103 : decode cX0_fewest 103 = .ok (.iand, 1) := dk_126 (dk_at dksX0_fewest_4 11 rfl rfl)
theorem dX0_fewest_104 : decode cX0_fewest 104 = .ok (.iaload, 1) := dk_46 (dk_at dksX0_fewest_4 12 rfl rfl)
theorem dX0_fewest_105 : decode cX0_fewest 105 = .ok (.invokestatic 68, 3) := dk_184 0 68 (dk_at dksX0_fewest_4 13 rfl rfl)
theorem dX0_fewest_108 : decode cX0_fewest 108 = .ok (.iastore, 1) := dk_79 (dk_at dksX0_fewest_4 16 rfl rfl)
theorem dX0_fewest_109 : decode cX0_fewest 109 = .ok (.iinc 3 1, 3) := dk_132 3 1 (dk_at dksX0_fewest_4 17 rfl rfl)
theorem dX0_fewest_112 : decode cX0_fewest 112 = .ok (.goto (-45), 3) := dk_167 255 211 (dk_at dksX0_fewest_4 20 rfl rfl)
theorem dX0_fewest_115 : decode cX0_fewest 115 = .ok (.aload_n 0, 1) := dk_42 (dk_at dksX0_fewest_4 23 rfl rfl)
theorem dX0_fewest_116 : decode cX0_fewest 116 = .ok (.getfield 56, 3) := dk_180 0 56 (dk_at dksX0_fewest_5 0 rfl rfl)
theorem dX0_fewest_119 : decode cX0_fewest 119 = .ok (.iload_n 2, 1) := dk_28 (dk_at dksX0_fewest_5 3 rfl rfl)
theorem dX0_fewest_120 : decode cX0_fewest 120 = .ok (.dup2, 1) := dk_92 (dk_at dksX0_fewest_5 4 rfl rfl)
theorem dX0_fewest_121 : decode cX0_fewest 121 = .ok (.iaload, 1) := dk_46 (dk_at dksX0_fewest_5 5 rfl rfl)
theorem dX0_fewest_122 : decode cX0_fewest 122 = .ok (.aload_n 0, 1) := dk_42 (dk_at dksX0_fewest_5 6 rfl rfl)
theorem dX0_fewest_123 : decode cX0_fewest 123 = .ok (.iload_n 2, 1) := dk_28 (dk_at dksX0_fewest_5 7 rfl rfl)
theorem dX0_fewest_124 : decode cX0_fewest 124 = .ok (.invokevirtual 321, 3) := dk_182 1 65 (dk_at dksX0_fewest_5 8 rfl rfl)
theorem dX0_fewest_127 : decode cX0_fewest 127 = .ok (.ifCond .ne 7, 3) := dk_154 0 7 (dk_at dksX0_fewest_5 11 rfl rfl)
theorem dX0_fewest_130 : decode cX0_fewest 130 = .ok (.iconst 1, 1) := dk_4 (dk_at dksX0_fewest_5 14 rfl rfl)
theorem dX0_fewest_131 : decode cX0_fewest 131 = .ok (.goto 4, 3) := dk_167 0 4 (dk_at dksX0_fewest_5 15 rfl rfl)
theorem dX0_fewest_134 : decode cX0_fewest 134 = .ok (.iconst 0, 1) := dk_3 (dk_at dksX0_fewest_5 18 rfl rfl)
theorem dX0_fewest_135 : decode cX0_fewest 135 = .ok (.iadd, 1) := dk_96 (dk_at dksX0_fewest_5 19 rfl rfl)
theorem dX0_fewest_136 : decode cX0_fewest 136 = .ok (.iastore, 1) := dk_79 (dk_at dksX0_fewest_5 20 rfl rfl)
theorem dX0_fewest_137 : decode cX0_fewest 137 = .ok (.iinc 2 1, 3) := dk_132 2 1 (dk_at dksX0_fewest_5 21 rfl rfl)
theorem dX0_fewest_140 : decode cX0_fewest 140 = .ok (.goto (-102), 3) := dk_167 255 154 (dk_at dksX0_fewest_6 0 rfl rfl)
theorem dX0_fewest_143 : decode cX0_fewest 143 = .ok (.iload_n 1, 1) := dk_27 (dk_at dksX0_fewest_6 3 rfl rfl)
theorem dX0_fewest_144 : decode cX0_fewest 144 = .ok (.invokestatic 303, 3) := dk_184 1 47 (dk_at dksX0_fewest_6 4 rfl rfl)
theorem dX0_fewest_147 : decode cX0_fewest 147 = .ok (.aload_n 0, 1) := dk_42 (dk_at dksX0_fewest_6 7 rfl rfl)
theorem dX0_fewest_148 : decode cX0_fewest 148 = .ok (.getfield 56, 3) := dk_180 0 56 (dk_at dksX0_fewest_6 8 rfl rfl)
theorem dX0_fewest_151 : decode cX0_fewest 151 = .ok (.iload_n 1, 1) := dk_27 (dk_at dksX0_fewest_6 11 rfl rfl)
theorem dX0_fewest_152 : decode cX0_fewest 152 = .ok (.iaload, 1) := dk_46 (dk_at dksX0_fewest_6 12 rfl rfl)
theorem dX0_fewest_153 : decode cX0_fewest 153 = .ok (.isub, 1) := dk_100 (dk_at dksX0_fewest_6 13 rfl rfl)
theorem dX0_fewest_154 : decode cX0_fewest 154 = .ok (.ireturn, 1) := dk_172 (dk_at dksX0_fewest_6 14 rfl rfl)
abbrev cX0_netOf : ByteArray := prog_1_method_41_code
def yX0_netOf : MethodName := ⟨RX0, "netOf", "(I)I"⟩
def dkwX0_netOf_2 : List UInt8 := [122, 4, 126, 100, 25, 4, 5, 46, 104, 96, 61, 132, 3, 1, 167, 255, 200, 28, 172]
abbrev dktX0_netOf_2 : List UInt8 := dkwX0_netOf_2 ++ []
def dkwX0_netOf_1 : List UInt8 := [180, 1, 62, 180, 1, 52, 29, 50, 58, 4, 28, 27, 25, 4, 4, 46, 122, 4, 126, 27, 25, 4, 3, 46]
abbrev dktX0_netOf_1 : List UInt8 := dkwX0_netOf_1 ++ dktX0_netOf_2
def dkwX0_netOf_0 : List UInt8 := [3, 61, 3, 62, 29, 42, 180, 0, 20, 180, 1, 62, 180, 1, 46, 162, 0, 48, 42, 180, 0, 20]
abbrev dktX0_netOf_0 : List UInt8 := dkwX0_netOf_0 ++ dktX0_netOf_1
theorem dksX0_netOf_0 : cX0_netOf.data.toList.drop 0 = dktX0_netOf_0 := by decide +kernel
theorem dksX0_netOf_1 : cX0_netOf.data.toList.drop 22 = dktX0_netOf_1 := dk_seg dksX0_netOf_0 22 rfl rfl
theorem dksX0_netOf_2 : cX0_netOf.data.toList.drop 46 = dktX0_netOf_2 := dk_seg dksX0_netOf_1 24 rfl rfl
theorem dX0_netOf_0 : decode cX0_netOf 0 = .ok (.iconst 0, 1) := dk_3 (dk_at dksX0_netOf_0 0 rfl rfl)
theorem dX0_netOf_1 : decode cX0_netOf 1 = .ok (.istore_n 2, 1) := dk_61 (dk_at dksX0_netOf_0 1 rfl rfl)
theorem dX0_netOf_2 : decode cX0_netOf 2 = .ok (.iconst 0, 1) := dk_3 (dk_at dksX0_netOf_0 2 rfl rfl)
theorem dX0_netOf_3 : decode cX0_netOf 3 = .ok (.istore_n 3, 1) := dk_62 (dk_at dksX0_netOf_0 3 rfl rfl)
theorem dX0_netOf_4 : decode cX0_netOf 4 = .ok (.iload_n 3, 1) := dk_29 (dk_at dksX0_netOf_0 4 rfl rfl)
theorem dX0_netOf_5 : decode cX0_netOf 5 = .ok (.aload_n 0, 1) := dk_42 (dk_at dksX0_netOf_0 5 rfl rfl)
theorem dX0_netOf_6 : decode cX0_netOf 6 = .ok (.getfield 20, 3) := dk_180 0 20 (dk_at dksX0_netOf_0 6 rfl rfl)
theorem dX0_netOf_9 : decode cX0_netOf 9 = .ok (.getfield 318, 3) := dk_180 1 62 (dk_at dksX0_netOf_0 9 rfl rfl)
theorem dX0_netOf_12 : decode cX0_netOf 12 = .ok (.getfield 302, 3) := dk_180 1 46 (dk_at dksX0_netOf_0 12 rfl rfl)
theorem dX0_netOf_15 : decode cX0_netOf 15 = .ok (.if_icmp .ge 48, 3) := dk_162 0 48 (dk_at dksX0_netOf_0 15 rfl rfl)
theorem dX0_netOf_18 : decode cX0_netOf 18 = .ok (.aload_n 0, 1) := dk_42 (dk_at dksX0_netOf_0 18 rfl rfl)
theorem dX0_netOf_19 : decode cX0_netOf 19 = .ok (.getfield 20, 3) := dk_180 0 20 (dk_at dksX0_netOf_0 19 rfl rfl)
theorem dX0_netOf_22 : decode cX0_netOf 22 = .ok (.getfield 318, 3) := dk_180 1 62 (dk_at dksX0_netOf_1 0 rfl rfl)
theorem dX0_netOf_25 : decode cX0_netOf 25 = .ok (.getfield 308, 3) := dk_180 1 52 (dk_at dksX0_netOf_1 3 rfl rfl)
theorem dX0_netOf_28 : decode cX0_netOf 28 = .ok (.iload_n 3, 1) := dk_29 (dk_at dksX0_netOf_1 6 rfl rfl)
theorem dX0_netOf_29 : decode cX0_netOf 29 = .ok (.aaload, 1) := dk_50 (dk_at dksX0_netOf_1 7 rfl rfl)
theorem dX0_netOf_30 : decode cX0_netOf 30 = .ok (.astore 4, 2) := dk_58 4 (dk_at dksX0_netOf_1 8 rfl rfl)
theorem dX0_netOf_32 : decode cX0_netOf 32 = .ok (.iload_n 2, 1) := dk_28 (dk_at dksX0_netOf_1 10 rfl rfl)
theorem dX0_netOf_33 : decode cX0_netOf 33 = .ok (.iload_n 1, 1) := dk_27 (dk_at dksX0_netOf_1 11 rfl rfl)
theorem dX0_netOf_34 : decode cX0_netOf 34 = .ok (.aload 4, 2) := dk_25 4 (dk_at dksX0_netOf_1 12 rfl rfl)
theorem dX0_netOf_36 : decode cX0_netOf 36 = .ok (.iconst 1, 1) := dk_4 (dk_at dksX0_netOf_1 14 rfl rfl)
theorem dX0_netOf_37 : decode cX0_netOf 37 = .ok (.iaload, 1) := dk_46 (dk_at dksX0_netOf_1 15 rfl rfl)
theorem dX0_netOf_38 : decode cX0_netOf 38 = .ok (.ishr, 1) := dk_122 (dk_at dksX0_netOf_1 16 rfl rfl)
theorem dX0_netOf_39 : decode cX0_netOf 39 = .ok (.iconst 1, 1) := dk_4 (dk_at dksX0_netOf_1 17 rfl rfl)
theorem dX0_netOf_40 : decode cX0_netOf 40 = .ok (.iand, 1) := dk_126 (dk_at dksX0_netOf_1 18 rfl rfl)
theorem dX0_netOf_41 : decode cX0_netOf 41 = .ok (.iload_n 1, 1) := dk_27 (dk_at dksX0_netOf_1 19 rfl rfl)
theorem dX0_netOf_42 : decode cX0_netOf 42 = .ok (.aload 4, 2) := dk_25 4 (dk_at dksX0_netOf_1 20 rfl rfl)
theorem dX0_netOf_44 : decode cX0_netOf 44 = .ok (.iconst 0, 1) := dk_3 (dk_at dksX0_netOf_1 22 rfl rfl)
theorem dX0_netOf_45 : decode cX0_netOf 45 = .ok (.iaload, 1) := dk_46 (dk_at dksX0_netOf_1 23 rfl rfl)
theorem dX0_netOf_46 : decode cX0_netOf 46 = .ok (.ishr, 1) := dk_122 (dk_at dksX0_netOf_2 0 rfl rfl)
theorem dX0_netOf_47 : decode cX0_netOf 47 = .ok (.iconst 1, 1) := dk_4 (dk_at dksX0_netOf_2 1 rfl rfl)
theorem dX0_netOf_48 : decode cX0_netOf 48 = .ok (.iand, 1) := dk_126 (dk_at dksX0_netOf_2 2 rfl rfl)
theorem dX0_netOf_49 : decode cX0_netOf 49 = .ok (.isub, 1) := dk_100 (dk_at dksX0_netOf_2 3 rfl rfl)
theorem dX0_netOf_50 : decode cX0_netOf 50 = .ok (.aload 4, 2) := dk_25 4 (dk_at dksX0_netOf_2 4 rfl rfl)
theorem dX0_netOf_52 : decode cX0_netOf 52 = .ok (.iconst 2, 1) := dk_5 (dk_at dksX0_netOf_2 6 rfl rfl)
theorem dX0_netOf_53 : decode cX0_netOf 53 = .ok (.iaload, 1) := dk_46 (dk_at dksX0_netOf_2 7 rfl rfl)
theorem dX0_netOf_54 : decode cX0_netOf 54 = .ok (.imul, 1) := dk_104 (dk_at dksX0_netOf_2 8 rfl rfl)
theorem dX0_netOf_55 : decode cX0_netOf 55 = .ok (.iadd, 1) := dk_96 (dk_at dksX0_netOf_2 9 rfl rfl)
theorem dX0_netOf_56 : decode cX0_netOf 56 = .ok (.istore_n 2, 1) := dk_61 (dk_at dksX0_netOf_2 10 rfl rfl)
theorem dX0_netOf_57 : decode cX0_netOf 57 = .ok (.iinc 3 1, 3) := dk_132 3 1 (dk_at dksX0_netOf_2 11 rfl rfl)
theorem dX0_netOf_60 : decode cX0_netOf 60 = .ok (.goto (-56), 3) := dk_167 255 200 (dk_at dksX0_netOf_2 14 rfl rfl)
theorem dX0_netOf_63 : decode cX0_netOf 63 = .ok (.iload_n 2, 1) := dk_28 (dk_at dksX0_netOf_2 17 rfl rfl)
theorem dX0_netOf_64 : decode cX0_netOf 64 = .ok (.ireturn, 1) := dk_172 (dk_at dksX0_netOf_2 18 rfl rfl)
abbrev cX0_chain : ByteArray := prog_1_method_44_code
def yX0_chain : MethodName := ⟨RX0, "chain", "(IIII)I"⟩
def dkwX0_chain_5 : List UInt8 := [167, 255, 197, 2, 172]
abbrev dktX0_chain_5 : List UInt8 := dkwX0_chain_5 ++ []
def dkwX0_chain_4 : List UInt8 := [21, 6, 104, 28, 21, 5, 100, 184, 0, 62, 54, 6, 21, 5, 21, 6, 96, 54, 5, 132, 7, 1]
abbrev dktX0_chain_4 : List UInt8 := dkwX0_chain_4 ++ dktX0_chain_5
def dkwX0_chain_3 : List UInt8 := [29, 160, 0, 6, 21, 5, 172, 21, 4, 4, 160, 0, 12, 21, 5, 28, 160, 0, 6, 21, 7, 172, 27]
abbrev dktX0_chain_3 : List UInt8 := dkwX0_chain_3 ++ dktX0_chain_4
def dkwX0_chain_2 : List UInt8 := [172, 4, 54, 5, 4, 54, 6, 3, 54, 7, 21, 7, 16, 99, 163, 0, 58, 21, 4, 154, 0, 12, 21, 7]
abbrev dktX0_chain_2 : List UInt8 := dkwX0_chain_2 ++ dktX0_chain_3
def dkwX0_chain_1 : List UInt8 := [154, 0, 13, 29, 3, 16, 99, 184, 0, 78, 153, 0, 13, 21, 4, 3, 4, 184, 0, 78, 154, 0, 5, 2]
abbrev dktX0_chain_1 : List UInt8 := dkwX0_chain_1 ++ dktX0_chain_2
def dkwX0_chain_0 : List UInt8 := [27, 4, 16, 9, 184, 0, 78, 153, 0, 39, 28, 4, 17, 39, 15, 184, 0, 78, 153, 0, 28, 21, 4]
abbrev dktX0_chain_0 : List UInt8 := dkwX0_chain_0 ++ dktX0_chain_1
theorem dksX0_chain_0 : cX0_chain.data.toList.drop 0 = dktX0_chain_0 := by decide +kernel
theorem dksX0_chain_1 : cX0_chain.data.toList.drop 23 = dktX0_chain_1 := dk_seg dksX0_chain_0 23 rfl rfl
theorem dksX0_chain_2 : cX0_chain.data.toList.drop 47 = dktX0_chain_2 := dk_seg dksX0_chain_1 24 rfl rfl
theorem dksX0_chain_3 : cX0_chain.data.toList.drop 71 = dktX0_chain_3 := dk_seg dksX0_chain_2 24 rfl rfl
theorem dksX0_chain_4 : cX0_chain.data.toList.drop 94 = dktX0_chain_4 := dk_seg dksX0_chain_3 23 rfl rfl
theorem dksX0_chain_5 : cX0_chain.data.toList.drop 116 = dktX0_chain_5 := dk_seg dksX0_chain_4 22 rfl rfl
theorem dX0_chain_0 : decode cX0_chain 0 = .ok (.iload_n 1, 1) := dk_27 (dk_at dksX0_chain_0 0 rfl rfl)
theorem dX0_chain_1 : decode cX0_chain 1 = .ok (.iconst 1, 1) := dk_4 (dk_at dksX0_chain_0 1 rfl rfl)
theorem dX0_chain_2 : decode cX0_chain 2 = .ok (.bipush 9, 2) := dk_16 9 (dk_at dksX0_chain_0 2 rfl rfl)
theorem dX0_chain_4 : decode cX0_chain 4 = .ok (.invokestatic 78, 3) := dk_184 0 78 (dk_at dksX0_chain_0 4 rfl rfl)
theorem dX0_chain_7 : decode cX0_chain 7 = .ok (.ifCond .eq 39, 3) := dk_153 0 39 (dk_at dksX0_chain_0 7 rfl rfl)
theorem dX0_chain_10 : decode cX0_chain 10 = .ok (.iload_n 2, 1) := dk_28 (dk_at dksX0_chain_0 10 rfl rfl)
theorem dX0_chain_11 : decode cX0_chain 11 = .ok (.iconst 1, 1) := dk_4 (dk_at dksX0_chain_0 11 rfl rfl)
theorem dX0_chain_12 : decode cX0_chain 12 = .ok (.sipush 9999, 3) := dk_17 39 15 (dk_at dksX0_chain_0 12 rfl rfl)
theorem dX0_chain_15 : decode cX0_chain 15 = .ok (.invokestatic 78, 3) := dk_184 0 78 (dk_at dksX0_chain_0 15 rfl rfl)
theorem dX0_chain_18 : decode cX0_chain 18 = .ok (.ifCond .eq 28, 3) := dk_153 0 28 (dk_at dksX0_chain_0 18 rfl rfl)
theorem dX0_chain_21 : decode cX0_chain 21 = .ok (.iload 4, 2) := dk_21 4 (dk_at dksX0_chain_0 21 rfl rfl)
theorem dX0_chain_23 : decode cX0_chain 23 = .ok (.ifCond .ne 13, 3) := dk_154 0 13 (dk_at dksX0_chain_1 0 rfl rfl)
theorem dX0_chain_26 : decode cX0_chain 26 = .ok (.iload_n 3, 1) := dk_29 (dk_at dksX0_chain_1 3 rfl rfl)
theorem dX0_chain_27 : decode cX0_chain 27 = .ok (.iconst 0, 1) := dk_3 (dk_at dksX0_chain_1 4 rfl rfl)
theorem dX0_chain_28 : decode cX0_chain 28 = .ok (.bipush 99, 2) := dk_16 99 (dk_at dksX0_chain_1 5 rfl rfl)
theorem dX0_chain_30 : decode cX0_chain 30 = .ok (.invokestatic 78, 3) := dk_184 0 78 (dk_at dksX0_chain_1 7 rfl rfl)
theorem dX0_chain_33 : decode cX0_chain 33 = .ok (.ifCond .eq 13, 3) := dk_153 0 13 (dk_at dksX0_chain_1 10 rfl rfl)
theorem dX0_chain_36 : decode cX0_chain 36 = .ok (.iload 4, 2) := dk_21 4 (dk_at dksX0_chain_1 13 rfl rfl)
theorem dX0_chain_38 : decode cX0_chain 38 = .ok (.iconst 0, 1) := dk_3 (dk_at dksX0_chain_1 15 rfl rfl)
theorem dX0_chain_39 : decode cX0_chain 39 = .ok (.iconst 1, 1) := dk_4 (dk_at dksX0_chain_1 16 rfl rfl)
theorem dX0_chain_40 : decode cX0_chain 40 = .ok (.invokestatic 78, 3) := dk_184 0 78 (dk_at dksX0_chain_1 17 rfl rfl)
theorem dX0_chain_43 : decode cX0_chain 43 = .ok (.ifCond .ne 5, 3) := dk_154 0 5 (dk_at dksX0_chain_1 20 rfl rfl)
theorem dX0_chain_46 : decode cX0_chain 46 = .ok (.iconst (-1), 1) := dk_2 (dk_at dksX0_chain_1 23 rfl rfl)
theorem dX0_chain_47 : decode cX0_chain 47 = .ok (.ireturn, 1) := dk_172 (dk_at dksX0_chain_2 0 rfl rfl)
theorem dX0_chain_48 : decode cX0_chain 48 = .ok (.iconst 1, 1) := dk_4 (dk_at dksX0_chain_2 1 rfl rfl)
theorem dX0_chain_49 : decode cX0_chain 49 = .ok (.istore 5, 2) := dk_54 5 (dk_at dksX0_chain_2 2 rfl rfl)
theorem dX0_chain_51 : decode cX0_chain 51 = .ok (.iconst 1, 1) := dk_4 (dk_at dksX0_chain_2 4 rfl rfl)
theorem dX0_chain_52 : decode cX0_chain 52 = .ok (.istore 6, 2) := dk_54 6 (dk_at dksX0_chain_2 5 rfl rfl)
theorem dX0_chain_54 : decode cX0_chain 54 = .ok (.iconst 0, 1) := dk_3 (dk_at dksX0_chain_2 7 rfl rfl)
theorem dX0_chain_55 : decode cX0_chain 55 = .ok (.istore 7, 2) := dk_54 7 (dk_at dksX0_chain_2 8 rfl rfl)
theorem dX0_chain_57 : decode cX0_chain 57 = .ok (.iload 7, 2) := dk_21 7 (dk_at dksX0_chain_2 10 rfl rfl)
theorem dX0_chain_59 : decode cX0_chain 59 = .ok (.bipush 99, 2) := dk_16 99 (dk_at dksX0_chain_2 12 rfl rfl)
theorem dX0_chain_61 : decode cX0_chain 61 = .ok (.if_icmp .gt 58, 3) := dk_163 0 58 (dk_at dksX0_chain_2 14 rfl rfl)
theorem dX0_chain_64 : decode cX0_chain 64 = .ok (.iload 4, 2) := dk_21 4 (dk_at dksX0_chain_2 17 rfl rfl)
theorem dX0_chain_66 : decode cX0_chain 66 = .ok (.ifCond .ne 12, 3) := dk_154 0 12 (dk_at dksX0_chain_2 19 rfl rfl)
theorem dX0_chain_69 : decode cX0_chain 69 = .ok (.iload 7, 2) := dk_21 7 (dk_at dksX0_chain_2 22 rfl rfl)
theorem dX0_chain_71 : decode cX0_chain 71 = .ok (.iload_n 3, 1) := dk_29 (dk_at dksX0_chain_3 0 rfl rfl)
theorem dX0_chain_72 : decode cX0_chain 72 = .ok (.if_icmp .ne 6, 3) := dk_160 0 6 (dk_at dksX0_chain_3 1 rfl rfl)
theorem dX0_chain_75 : decode cX0_chain 75 = .ok (.iload 5, 2) := dk_21 5 (dk_at dksX0_chain_3 4 rfl rfl)
theorem dX0_chain_77 : decode cX0_chain 77 = .ok (.ireturn, 1) := dk_172 (dk_at dksX0_chain_3 6 rfl rfl)
theorem dX0_chain_78 : decode cX0_chain 78 = .ok (.iload 4, 2) := dk_21 4 (dk_at dksX0_chain_3 7 rfl rfl)
theorem dX0_chain_80 : decode cX0_chain 80 = .ok (.iconst 1, 1) := dk_4 (dk_at dksX0_chain_3 9 rfl rfl)
theorem dX0_chain_81 : decode cX0_chain 81 = .ok (.if_icmp .ne 12, 3) := dk_160 0 12 (dk_at dksX0_chain_3 10 rfl rfl)
theorem dX0_chain_84 : decode cX0_chain 84 = .ok (.iload 5, 2) := dk_21 5 (dk_at dksX0_chain_3 13 rfl rfl)
theorem dX0_chain_86 : decode cX0_chain 86 = .ok (.iload_n 2, 1) := dk_28 (dk_at dksX0_chain_3 15 rfl rfl)
theorem dX0_chain_87 : decode cX0_chain 87 = .ok (.if_icmp .ne 6, 3) := dk_160 0 6 (dk_at dksX0_chain_3 16 rfl rfl)
theorem dX0_chain_90 : decode cX0_chain 90 = .ok (.iload 7, 2) := dk_21 7 (dk_at dksX0_chain_3 19 rfl rfl)
theorem dX0_chain_92 : decode cX0_chain 92 = .ok (.ireturn, 1) := dk_172 (dk_at dksX0_chain_3 21 rfl rfl)
theorem dX0_chain_93 : decode cX0_chain 93 = .ok (.iload_n 1, 1) := dk_27 (dk_at dksX0_chain_3 22 rfl rfl)
theorem dX0_chain_94 : decode cX0_chain 94 = .ok (.iload 6, 2) := dk_21 6 (dk_at dksX0_chain_4 0 rfl rfl)
theorem dX0_chain_96 : decode cX0_chain 96 = .ok (.imul, 1) := dk_104 (dk_at dksX0_chain_4 2 rfl rfl)
theorem dX0_chain_97 : decode cX0_chain 97 = .ok (.iload_n 2, 1) := dk_28 (dk_at dksX0_chain_4 3 rfl rfl)
theorem dX0_chain_98 : decode cX0_chain 98 = .ok (.iload 5, 2) := dk_21 5 (dk_at dksX0_chain_4 4 rfl rfl)
theorem dX0_chain_100 : decode cX0_chain 100 = .ok (.isub, 1) := dk_100 (dk_at dksX0_chain_4 6 rfl rfl)
theorem dX0_chain_101 : decode cX0_chain 101 = .ok (.invokestatic 62, 3) := dk_184 0 62 (dk_at dksX0_chain_4 7 rfl rfl)
theorem dX0_chain_104 : decode cX0_chain 104 = .ok (.istore 6, 2) := dk_54 6 (dk_at dksX0_chain_4 10 rfl rfl)
theorem dX0_chain_106 : decode cX0_chain 106 = .ok (.iload 5, 2) := dk_21 5 (dk_at dksX0_chain_4 12 rfl rfl)
theorem dX0_chain_108 : decode cX0_chain 108 = .ok (.iload 6, 2) := dk_21 6 (dk_at dksX0_chain_4 14 rfl rfl)
theorem dX0_chain_110 : decode cX0_chain 110 = .ok (.iadd, 1) := dk_96 (dk_at dksX0_chain_4 16 rfl rfl)
theorem dX0_chain_111 : decode cX0_chain 111 = .ok (.istore 5, 2) := dk_54 5 (dk_at dksX0_chain_4 17 rfl rfl)
theorem dX0_chain_113 : decode cX0_chain 113 = .ok (.iinc 7 1, 3) := dk_132 7 1 (dk_at dksX0_chain_4 19 rfl rfl)
theorem dX0_chain_116 : decode cX0_chain 116 = .ok (.goto (-59), 3) := dk_167 255 197 (dk_at dksX0_chain_5 0 rfl rfl)
theorem dX0_chain_119 : decode cX0_chain 119 = .ok (.iconst (-1), 1) := dk_2 (dk_at dksX0_chain_5 3 rfl rfl)
theorem dX0_chain_120 : decode cX0_chain 120 = .ok (.ireturn, 1) := dk_172 (dk_at dksX0_chain_5 4 rfl rfl)
abbrev cX0_has : ByteArray := prog_1_method_45_code
def yX0_has : MethodName := ⟨RX0, "has", "(II)Z"⟩
def dkwX0_has_1 : List UInt8 := [180, 0, 20, 180, 1, 71, 27, 28, 79, 4, 172]
abbrev dktX0_has_1 : List UInt8 := dkwX0_has_1 ++ []
def dkwX0_has_0 : List UInt8 := [27, 3, 16, 25, 184, 0, 78, 153, 0, 13, 28, 3, 16, 9, 184, 0, 78, 154, 0, 5, 3, 172, 42]
abbrev dktX0_has_0 : List UInt8 := dkwX0_has_0 ++ dktX0_has_1
theorem dksX0_has_0 : cX0_has.data.toList.drop 0 = dktX0_has_0 := by decide +kernel
theorem dksX0_has_1 : cX0_has.data.toList.drop 23 = dktX0_has_1 := dk_seg dksX0_has_0 23 rfl rfl
theorem dX0_has_0 : decode cX0_has 0 = .ok (.iload_n 1, 1) := dk_27 (dk_at dksX0_has_0 0 rfl rfl)
theorem dX0_has_1 : decode cX0_has 1 = .ok (.iconst 0, 1) := dk_3 (dk_at dksX0_has_0 1 rfl rfl)
theorem dX0_has_2 : decode cX0_has 2 = .ok (.bipush 25, 2) := dk_16 25 (dk_at dksX0_has_0 2 rfl rfl)
theorem dX0_has_4 : decode cX0_has 4 = .ok (.invokestatic 78, 3) := dk_184 0 78 (dk_at dksX0_has_0 4 rfl rfl)
theorem dX0_has_7 : decode cX0_has 7 = .ok (.ifCond .eq 13, 3) := dk_153 0 13 (dk_at dksX0_has_0 7 rfl rfl)
theorem dX0_has_10 : decode cX0_has 10 = .ok (.iload_n 2, 1) := dk_28 (dk_at dksX0_has_0 10 rfl rfl)
theorem dX0_has_11 : decode cX0_has 11 = .ok (.iconst 0, 1) := dk_3 (dk_at dksX0_has_0 11 rfl rfl)
theorem dX0_has_12 : decode cX0_has 12 = .ok (.bipush 9, 2) := dk_16 9 (dk_at dksX0_has_0 12 rfl rfl)
theorem dX0_has_14 : decode cX0_has 14 = .ok (.invokestatic 78, 3) := dk_184 0 78 (dk_at dksX0_has_0 14 rfl rfl)
theorem dX0_has_17 : decode cX0_has 17 = .ok (.ifCond .ne 5, 3) := dk_154 0 5 (dk_at dksX0_has_0 17 rfl rfl)
theorem dX0_has_20 : decode cX0_has 20 = .ok (.iconst 0, 1) := dk_3 (dk_at dksX0_has_0 20 rfl rfl)
theorem dX0_has_21 : decode cX0_has 21 = .ok (.ireturn, 1) := dk_172 (dk_at dksX0_has_0 21 rfl rfl)
theorem dX0_has_22 : decode cX0_has 22 = .ok (.aload_n 0, 1) := dk_42 (dk_at dksX0_has_0 22 rfl rfl)
theorem dX0_has_23 : decode cX0_has 23 = .ok (.getfield 20, 3) := dk_180 0 20 (dk_at dksX0_has_1 0 rfl rfl)
theorem dX0_has_26 : decode cX0_has 26 = .ok (.getfield 327, 3) := dk_180 1 71 (dk_at dksX0_has_1 3 rfl rfl)
theorem dX0_has_29 : decode cX0_has 29 = .ok (.iload_n 1, 1) := dk_27 (dk_at dksX0_has_1 6 rfl rfl)
theorem dX0_has_30 : decode cX0_has 30 = .ok (.iload_n 2, 1) := dk_28 (dk_at dksX0_has_1 7 rfl rfl)
theorem dX0_has_31 : decode cX0_has 31 = .ok (.iastore, 1) := dk_79 (dk_at dksX0_has_1 8 rfl rfl)
theorem dX0_has_32 : decode cX0_has 32 = .ok (.iconst 1, 1) := dk_4 (dk_at dksX0_has_1 9 rfl rfl)
theorem dX0_has_33 : decode cX0_has 33 = .ok (.ireturn, 1) := dk_172 (dk_at dksX0_has_1 10 rfl rfl)
abbrev cX0_spell : ByteArray := prog_1_method_46_code
def yX0_spell : MethodName := ⟨RX0, "spell", "(I)I"⟩
def dkwX0_spell_1 : List UInt8 := [184, 0, 78, 153, 0, 19, 42, 180, 0, 20, 180, 1, 74, 27, 3, 3, 182, 1, 42, 167, 0, 4, 2, 172]
abbrev dktX0_spell_1 : List UInt8 := dkwX0_spell_1 ++ []
def dkwX0_spell_0 : List UInt8 := [27, 2, 160, 0, 16, 42, 180, 0, 20, 180, 1, 74, 182, 1, 37, 167, 0, 30, 27, 3, 16, 25]
abbrev dktX0_spell_0 : List UInt8 := dkwX0_spell_0 ++ dktX0_spell_1
theorem dksX0_spell_0 : cX0_spell.data.toList.drop 0 = dktX0_spell_0 := by decide +kernel
theorem dksX0_spell_1 : cX0_spell.data.toList.drop 22 = dktX0_spell_1 := dk_seg dksX0_spell_0 22 rfl rfl
theorem dX0_spell_0 : decode cX0_spell 0 = .ok (.iload_n 1, 1) := dk_27 (dk_at dksX0_spell_0 0 rfl rfl)
theorem dX0_spell_1 : decode cX0_spell 1 = .ok (.iconst (-1), 1) := dk_2 (dk_at dksX0_spell_0 1 rfl rfl)
theorem dX0_spell_2 : decode cX0_spell 2 = .ok (.if_icmp .ne 16, 3) := dk_160 0 16 (dk_at dksX0_spell_0 2 rfl rfl)
theorem dX0_spell_5 : decode cX0_spell 5 = .ok (.aload_n 0, 1) := dk_42 (dk_at dksX0_spell_0 5 rfl rfl)
theorem dX0_spell_6 : decode cX0_spell 6 = .ok (.getfield 20, 3) := dk_180 0 20 (dk_at dksX0_spell_0 6 rfl rfl)
theorem dX0_spell_9 : decode cX0_spell 9 = .ok (.getfield 330, 3) := dk_180 1 74 (dk_at dksX0_spell_0 9 rfl rfl)
theorem dX0_spell_12 : decode cX0_spell 12 = .ok (.invokevirtual 293, 3) := dk_182 1 37 (dk_at dksX0_spell_0 12 rfl rfl)
theorem dX0_spell_15 : decode cX0_spell 15 = .ok (.goto 30, 3) := dk_167 0 30 (dk_at dksX0_spell_0 15 rfl rfl)
theorem dX0_spell_18 : decode cX0_spell 18 = .ok (.iload_n 1, 1) := dk_27 (dk_at dksX0_spell_0 18 rfl rfl)
theorem dX0_spell_19 : decode cX0_spell 19 = .ok (.iconst 0, 1) := dk_3 (dk_at dksX0_spell_0 19 rfl rfl)
theorem dX0_spell_20 : decode cX0_spell 20 = .ok (.bipush 25, 2) := dk_16 25 (dk_at dksX0_spell_0 20 rfl rfl)
theorem dX0_spell_22 : decode cX0_spell 22 = .ok (.invokestatic 78, 3) := dk_184 0 78 (dk_at dksX0_spell_1 0 rfl rfl)
theorem dX0_spell_25 : decode cX0_spell 25 = .ok (.ifCond .eq 19, 3) := dk_153 0 19 (dk_at dksX0_spell_1 3 rfl rfl)
theorem dX0_spell_28 : decode cX0_spell 28 = .ok (.aload_n 0, 1) := dk_42 (dk_at dksX0_spell_1 6 rfl rfl)
theorem dX0_spell_29 : decode cX0_spell 29 = .ok (.getfield 20, 3) := dk_180 0 20 (dk_at dksX0_spell_1 7 rfl rfl)
theorem dX0_spell_32 : decode cX0_spell 32 = .ok (.getfield 330, 3) := dk_180 1 74 (dk_at dksX0_spell_1 10 rfl rfl)
theorem dX0_spell_35 : decode cX0_spell 35 = .ok (.iload_n 1, 1) := dk_27 (dk_at dksX0_spell_1 13 rfl rfl)
theorem dX0_spell_36 : decode cX0_spell 36 = .ok (.iconst 0, 1) := dk_3 (dk_at dksX0_spell_1 14 rfl rfl)
theorem dX0_spell_37 : decode cX0_spell 37 = .ok (.iconst 0, 1) := dk_3 (dk_at dksX0_spell_1 15 rfl rfl)
theorem dX0_spell_38 : decode cX0_spell 38 = .ok (.invokevirtual 298, 3) := dk_182 1 42 (dk_at dksX0_spell_1 16 rfl rfl)
theorem dX0_spell_41 : decode cX0_spell 41 = .ok (.goto 4, 3) := dk_167 0 4 (dk_at dksX0_spell_1 19 rfl rfl)
theorem dX0_spell_44 : decode cX0_spell 44 = .ok (.iconst (-1), 1) := dk_2 (dk_at dksX0_spell_1 22 rfl rfl)
theorem dX0_spell_45 : decode cX0_spell 45 = .ok (.ireturn, 1) := dk_172 (dk_at dksX0_spell_1 23 rfl rfl)
abbrev cX0_lays : ByteArray := prog_1_method_48_code
def yX0_lays : MethodName := ⟨RX0, "lays", "(I)I"⟩
def dkwX0_lays_5 : List UInt8 := [167, 0, 5, 21, 4, 172]
abbrev dktX0_lays_5 : List UInt8 := dkwX0_lays_5 ++ []
def dkwX0_lays_4 : List UInt8 := [21, 6, 21, 5, 4, 96, 182, 1, 76, 108, 54, 4, 132, 5, 1, 167, 255, 187, 27, 154, 0, 7, 29]
abbrev dktX0_lays_4 : List UInt8 := dkwX0_lays_4 ++ dktX0_lays_5
def dkwX0_lays_3 : List UInt8 := [21, 6, 46, 42, 21, 6, 28, 182, 1, 76, 108, 184, 0, 62, 62, 21, 4, 21, 5, 4, 96, 104, 42]
abbrev dktX0_lays_3 : List UInt8 := dkwX0_lays_3 ++ dktX0_lays_4
def dkwX0_lays_2 : List UInt8 := [180, 0, 20, 180, 1, 74, 180, 1, 52, 21, 5, 50, 3, 46, 54, 6, 29, 42, 180, 0, 20, 180, 1, 71]
abbrev dktX0_lays_2 : List UInt8 := dkwX0_lays_2 ++ dktX0_lays_3
def dkwX0_lays_1 : List UInt8 := [154, 0, 7, 3, 167, 0, 5, 16, 9, 62, 4, 54, 4, 3, 54, 5, 21, 5, 28, 162, 0, 69, 42]
abbrev dktX0_lays_1 : List UInt8 := dkwX0_lays_1 ++ dktX0_lays_2
def dkwX0_lays_0 : List UInt8 := [27, 3, 4, 184, 0, 78, 154, 0, 5, 2, 172, 42, 180, 0, 20, 180, 1, 74, 180, 1, 46, 61, 28]
abbrev dktX0_lays_0 : List UInt8 := dkwX0_lays_0 ++ dktX0_lays_1
theorem dksX0_lays_0 : cX0_lays.data.toList.drop 0 = dktX0_lays_0 := by decide +kernel
theorem dksX0_lays_1 : cX0_lays.data.toList.drop 23 = dktX0_lays_1 := dk_seg dksX0_lays_0 23 rfl rfl
theorem dksX0_lays_2 : cX0_lays.data.toList.drop 46 = dktX0_lays_2 := dk_seg dksX0_lays_1 23 rfl rfl
theorem dksX0_lays_3 : cX0_lays.data.toList.drop 70 = dktX0_lays_3 := dk_seg dksX0_lays_2 24 rfl rfl
theorem dksX0_lays_4 : cX0_lays.data.toList.drop 93 = dktX0_lays_4 := dk_seg dksX0_lays_3 23 rfl rfl
theorem dksX0_lays_5 : cX0_lays.data.toList.drop 116 = dktX0_lays_5 := dk_seg dksX0_lays_4 23 rfl rfl
theorem dX0_lays_0 : decode cX0_lays 0 = .ok (.iload_n 1, 1) := dk_27 (dk_at dksX0_lays_0 0 rfl rfl)
theorem dX0_lays_1 : decode cX0_lays 1 = .ok (.iconst 0, 1) := dk_3 (dk_at dksX0_lays_0 1 rfl rfl)
theorem dX0_lays_2 : decode cX0_lays 2 = .ok (.iconst 1, 1) := dk_4 (dk_at dksX0_lays_0 2 rfl rfl)
theorem dX0_lays_3 : decode cX0_lays 3 = .ok (.invokestatic 78, 3) := dk_184 0 78 (dk_at dksX0_lays_0 3 rfl rfl)
theorem dX0_lays_6 : decode cX0_lays 6 = .ok (.ifCond .ne 5, 3) := dk_154 0 5 (dk_at dksX0_lays_0 6 rfl rfl)
theorem dX0_lays_9 : decode cX0_lays 9 = .ok (.iconst (-1), 1) := dk_2 (dk_at dksX0_lays_0 9 rfl rfl)
theorem dX0_lays_10 : decode cX0_lays 10 = .ok (.ireturn, 1) := dk_172 (dk_at dksX0_lays_0 10 rfl rfl)
theorem dX0_lays_11 : decode cX0_lays 11 = .ok (.aload_n 0, 1) := dk_42 (dk_at dksX0_lays_0 11 rfl rfl)
theorem dX0_lays_12 : decode cX0_lays 12 = .ok (.getfield 20, 3) := dk_180 0 20 (dk_at dksX0_lays_0 12 rfl rfl)
theorem dX0_lays_15 : decode cX0_lays 15 = .ok (.getfield 330, 3) := dk_180 1 74 (dk_at dksX0_lays_0 15 rfl rfl)
theorem dX0_lays_18 : decode cX0_lays 18 = .ok (.getfield 302, 3) := dk_180 1 46 (dk_at dksX0_lays_0 18 rfl rfl)
theorem dX0_lays_21 : decode cX0_lays 21 = .ok (.istore_n 2, 1) := dk_61 (dk_at dksX0_lays_0 21 rfl rfl)
theorem dX0_lays_22 : decode cX0_lays 22 = .ok (.iload_n 2, 1) := dk_28 (dk_at dksX0_lays_0 22 rfl rfl)
theorem dX0_lays_23 : decode cX0_lays 23 = .ok (.ifCond .ne 7, 3) := dk_154 0 7 (dk_at dksX0_lays_1 0 rfl rfl)
theorem dX0_lays_26 : decode cX0_lays 26 = .ok (.iconst 0, 1) := dk_3 (dk_at dksX0_lays_1 3 rfl rfl)
theorem dX0_lays_27 : decode cX0_lays 27 = .ok (.goto 5, 3) := dk_167 0 5 (dk_at dksX0_lays_1 4 rfl rfl)
theorem dX0_lays_30 : decode cX0_lays 30 = .ok (.bipush 9, 2) := dk_16 9 (dk_at dksX0_lays_1 7 rfl rfl)
theorem dX0_lays_32 : decode cX0_lays 32 = .ok (.istore_n 3, 1) := dk_62 (dk_at dksX0_lays_1 9 rfl rfl)
theorem dX0_lays_33 : decode cX0_lays 33 = .ok (.iconst 1, 1) := dk_4 (dk_at dksX0_lays_1 10 rfl rfl)
theorem dX0_lays_34 : decode cX0_lays 34 = .ok (.istore 4, 2) := dk_54 4 (dk_at dksX0_lays_1 11 rfl rfl)
theorem dX0_lays_36 : decode cX0_lays 36 = .ok (.iconst 0, 1) := dk_3 (dk_at dksX0_lays_1 13 rfl rfl)
theorem dX0_lays_37 : decode cX0_lays 37 = .ok (.istore 5, 2) := dk_54 5 (dk_at dksX0_lays_1 14 rfl rfl)
theorem dX0_lays_39 : decode cX0_lays 39 = .ok (.iload 5, 2) := dk_21 5 (dk_at dksX0_lays_1 16 rfl rfl)
theorem dX0_lays_41 : decode cX0_lays 41 = .ok (.iload_n 2, 1) := dk_28 (dk_at dksX0_lays_1 18 rfl rfl)
theorem dX0_lays_42 : decode cX0_lays 42 = .ok (.if_icmp .ge 69, 3) := dk_162 0 69 (dk_at dksX0_lays_1 19 rfl rfl)
theorem dX0_lays_45 : decode cX0_lays 45 = .ok (.aload_n 0, 1) := dk_42 (dk_at dksX0_lays_1 22 rfl rfl)
theorem dX0_lays_46 : decode cX0_lays 46 = .ok (.getfield 20, 3) := dk_180 0 20 (dk_at dksX0_lays_2 0 rfl rfl)
theorem dX0_lays_49 : decode cX0_lays 49 = .ok (.getfield 330, 3) := dk_180 1 74 (dk_at dksX0_lays_2 3 rfl rfl)
theorem dX0_lays_52 : decode cX0_lays 52 = .ok (.getfield 308, 3) := dk_180 1 52 (dk_at dksX0_lays_2 6 rfl rfl)
theorem dX0_lays_55 : decode cX0_lays 55 = .ok (.iload 5, 2) := dk_21 5 (dk_at dksX0_lays_2 9 rfl rfl)
theorem dX0_lays_57 : decode cX0_lays 57 = .ok (.aaload, 1) := dk_50 (dk_at dksX0_lays_2 11 rfl rfl)
theorem dX0_lays_58 : decode cX0_lays 58 = .ok (.iconst 0, 1) := dk_3 (dk_at dksX0_lays_2 12 rfl rfl)
theorem dX0_lays_59 : decode cX0_lays 59 = .ok (.iaload, 1) := dk_46 (dk_at dksX0_lays_2 13 rfl rfl)
theorem dX0_lays_60 : decode cX0_lays 60 = .ok (.istore 6, 2) := dk_54 6 (dk_at dksX0_lays_2 14 rfl rfl)
theorem dX0_lays_62 : decode cX0_lays 62 = .ok (.iload_n 3, 1) := dk_29 (dk_at dksX0_lays_2 16 rfl rfl)
theorem dX0_lays_63 : decode cX0_lays 63 = .ok (.aload_n 0, 1) := dk_42 (dk_at dksX0_lays_2 17 rfl rfl)
theorem dX0_lays_64 : decode cX0_lays 64 = .ok (.getfield 20, 3) := dk_180 0 20 (dk_at dksX0_lays_2 18 rfl rfl)
theorem dX0_lays_67 : decode cX0_lays 67 = .ok (.getfield 327, 3) := dk_180 1 71 (dk_at dksX0_lays_2 21 rfl rfl)
theorem dX0_lays_70 : decode cX0_lays 70 = .ok (.iload 6, 2) := dk_21 6 (dk_at dksX0_lays_3 0 rfl rfl)
theorem dX0_lays_72 : decode cX0_lays 72 = .ok (.iaload, 1) := dk_46 (dk_at dksX0_lays_3 2 rfl rfl)
theorem dX0_lays_73 : decode cX0_lays 73 = .ok (.aload_n 0, 1) := dk_42 (dk_at dksX0_lays_3 3 rfl rfl)
theorem dX0_lays_74 : decode cX0_lays 74 = .ok (.iload 6, 2) := dk_21 6 (dk_at dksX0_lays_3 4 rfl rfl)
theorem dX0_lays_76 : decode cX0_lays 76 = .ok (.iload_n 2, 1) := dk_28 (dk_at dksX0_lays_3 6 rfl rfl)
theorem dX0_lays_77 : decode cX0_lays 77 = .ok (.invokevirtual 332, 3) := dk_182 1 76 (dk_at dksX0_lays_3 7 rfl rfl)
theorem dX0_lays_80 : decode cX0_lays 80 = .ok (.idiv, 1) := dk_108 (dk_at dksX0_lays_3 10 rfl rfl)
theorem dX0_lays_81 : decode cX0_lays 81 = .ok (.invokestatic 62, 3) := dk_184 0 62 (dk_at dksX0_lays_3 11 rfl rfl)
theorem dX0_lays_84 : decode cX0_lays 84 = .ok (.istore_n 3, 1) := dk_62 (dk_at dksX0_lays_3 14 rfl rfl)
theorem dX0_lays_85 : decode cX0_lays 85 = .ok (.iload 4, 2) := dk_21 4 (dk_at dksX0_lays_3 15 rfl rfl)
theorem dX0_lays_87 : decode cX0_lays 87 = .ok (.iload 5, 2) := dk_21 5 (dk_at dksX0_lays_3 17 rfl rfl)
theorem dX0_lays_89 : decode cX0_lays 89 = .ok (.iconst 1, 1) := dk_4 (dk_at dksX0_lays_3 19 rfl rfl)
theorem dX0_lays_90 : decode cX0_lays 90 = .ok (.iadd, 1) := dk_96 (dk_at dksX0_lays_3 20 rfl rfl)
theorem dX0_lays_91 : decode cX0_lays 91 = .ok (.imul, 1) := dk_104 (dk_at dksX0_lays_3 21 rfl rfl)
theorem dX0_lays_92 : decode cX0_lays 92 = .ok (.aload_n 0, 1) := dk_42 (dk_at dksX0_lays_3 22 rfl rfl)
theorem dX0_lays_93 : decode cX0_lays 93 = .ok (.iload 6, 2) := dk_21 6 (dk_at dksX0_lays_4 0 rfl rfl)
theorem dX0_lays_95 : decode cX0_lays 95 = .ok (.iload 5, 2) := dk_21 5 (dk_at dksX0_lays_4 2 rfl rfl)
theorem dX0_lays_97 : decode cX0_lays 97 = .ok (.iconst 1, 1) := dk_4 (dk_at dksX0_lays_4 4 rfl rfl)
theorem dX0_lays_98 : decode cX0_lays 98 = .ok (.iadd, 1) := dk_96 (dk_at dksX0_lays_4 5 rfl rfl)
theorem dX0_lays_99 : decode cX0_lays 99 = .ok (.invokevirtual 332, 3) := dk_182 1 76 (dk_at dksX0_lays_4 6 rfl rfl)
theorem dX0_lays_102 : decode cX0_lays 102 = .ok (.idiv, 1) := dk_108 (dk_at dksX0_lays_4 9 rfl rfl)
theorem dX0_lays_103 : decode cX0_lays 103 = .ok (.istore 4, 2) := dk_54 4 (dk_at dksX0_lays_4 10 rfl rfl)
theorem dX0_lays_105 : decode cX0_lays 105 = .ok (.iinc 5 1, 3) := dk_132 5 1 (dk_at dksX0_lays_4 12 rfl rfl)
theorem dX0_lays_108 : decode cX0_lays 108 = .ok (.goto (-69), 3) := dk_167 255 187 (dk_at dksX0_lays_4 15 rfl rfl)
theorem dX0_lays_111 : decode cX0_lays 111 = .ok (.iload_n 1, 1) := dk_27 (dk_at dksX0_lays_4 18 rfl rfl)
theorem dX0_lays_112 : decode cX0_lays 112 = .ok (.ifCond .ne 7, 3) := dk_154 0 7 (dk_at dksX0_lays_4 19 rfl rfl)
theorem dX0_lays_115 : decode cX0_lays 115 = .ok (.iload_n 3, 1) := dk_29 (dk_at dksX0_lays_4 22 rfl rfl)
theorem dX0_lays_116 : decode cX0_lays 116 = .ok (.goto 5, 3) := dk_167 0 5 (dk_at dksX0_lays_5 0 rfl rfl)
theorem dX0_lays_119 : decode cX0_lays 119 = .ok (.iload 4, 2) := dk_21 4 (dk_at dksX0_lays_5 3 rfl rfl)
theorem dX0_lays_121 : decode cX0_lays 121 = .ok (.ireturn, 1) := dk_172 (dk_at dksX0_lays_5 5 rfl rfl)
abbrev cX0_inWord : ByteArray := prog_1_method_47_code
def yX0_inWord : MethodName := ⟨RX0, "inWord", "(II)I"⟩
def dkwX0_inWord_1 : List UInt8 := [50, 3, 46, 27, 160, 0, 7, 4, 167, 0, 4, 3, 96, 62, 132, 4, 1, 167, 255, 220, 29, 172]
abbrev dktX0_inWord_1 : List UInt8 := dkwX0_inWord_1 ++ []
def dkwX0_inWord_0 : List UInt8 := [3, 62, 3, 54, 4, 21, 4, 28, 162, 0, 36, 29, 42, 180, 0, 20, 180, 1, 74, 180, 1, 52, 21, 4]
abbrev dktX0_inWord_0 : List UInt8 := dkwX0_inWord_0 ++ dktX0_inWord_1
theorem dksX0_inWord_0 : cX0_inWord.data.toList.drop 0 = dktX0_inWord_0 := by decide +kernel
theorem dksX0_inWord_1 : cX0_inWord.data.toList.drop 24 = dktX0_inWord_1 := dk_seg dksX0_inWord_0 24 rfl rfl
theorem dX0_inWord_0 : decode cX0_inWord 0 = .ok (.iconst 0, 1) := dk_3 (dk_at dksX0_inWord_0 0 rfl rfl)
theorem dX0_inWord_1 : decode cX0_inWord 1 = .ok (.istore_n 3, 1) := dk_62 (dk_at dksX0_inWord_0 1 rfl rfl)
theorem dX0_inWord_2 : decode cX0_inWord 2 = .ok (.iconst 0, 1) := dk_3 (dk_at dksX0_inWord_0 2 rfl rfl)
theorem dX0_inWord_3 : decode cX0_inWord 3 = .ok (.istore 4, 2) := dk_54 4 (dk_at dksX0_inWord_0 3 rfl rfl)
theorem dX0_inWord_5 : decode cX0_inWord 5 = .ok (.iload 4, 2) := dk_21 4 (dk_at dksX0_inWord_0 5 rfl rfl)
theorem dX0_inWord_7 : decode cX0_inWord 7 = .ok (.iload_n 2, 1) := dk_28 (dk_at dksX0_inWord_0 7 rfl rfl)
theorem dX0_inWord_8 : decode cX0_inWord 8 = .ok (.if_icmp .ge 36, 3) := dk_162 0 36 (dk_at dksX0_inWord_0 8 rfl rfl)
theorem dX0_inWord_11 : decode cX0_inWord 11 = .ok (.iload_n 3, 1) := dk_29 (dk_at dksX0_inWord_0 11 rfl rfl)
theorem dX0_inWord_12 : decode cX0_inWord 12 = .ok (.aload_n 0, 1) := dk_42 (dk_at dksX0_inWord_0 12 rfl rfl)
theorem dX0_inWord_13 : decode cX0_inWord 13 = .ok (.getfield 20, 3) := dk_180 0 20 (dk_at dksX0_inWord_0 13 rfl rfl)
theorem dX0_inWord_16 : decode cX0_inWord 16 = .ok (.getfield 330, 3) := dk_180 1 74 (dk_at dksX0_inWord_0 16 rfl rfl)
theorem dX0_inWord_19 : decode cX0_inWord 19 = .ok (.getfield 308, 3) := dk_180 1 52 (dk_at dksX0_inWord_0 19 rfl rfl)
theorem dX0_inWord_22 : decode cX0_inWord 22 = .ok (.iload 4, 2) := dk_21 4 (dk_at dksX0_inWord_0 22 rfl rfl)
theorem dX0_inWord_24 : decode cX0_inWord 24 = .ok (.aaload, 1) := dk_50 (dk_at dksX0_inWord_1 0 rfl rfl)
theorem dX0_inWord_25 : decode cX0_inWord 25 = .ok (.iconst 0, 1) := dk_3 (dk_at dksX0_inWord_1 1 rfl rfl)
theorem dX0_inWord_26 : decode cX0_inWord 26 = .ok (.iaload, 1) := dk_46 (dk_at dksX0_inWord_1 2 rfl rfl)
theorem dX0_inWord_27 : decode cX0_inWord 27 = .ok (.iload_n 1, 1) := dk_27 (dk_at dksX0_inWord_1 3 rfl rfl)
theorem dX0_inWord_28 : decode cX0_inWord 28 = .ok (.if_icmp .ne 7, 3) := dk_160 0 7 (dk_at dksX0_inWord_1 4 rfl rfl)
theorem dX0_inWord_31 : decode cX0_inWord 31 = .ok (.iconst 1, 1) := dk_4 (dk_at dksX0_inWord_1 7 rfl rfl)
theorem dX0_inWord_32 : decode cX0_inWord 32 = .ok (.goto 4, 3) := dk_167 0 4 (dk_at dksX0_inWord_1 8 rfl rfl)
theorem dX0_inWord_35 : decode cX0_inWord 35 = .ok (.iconst 0, 1) := dk_3 (dk_at dksX0_inWord_1 11 rfl rfl)
theorem dX0_inWord_36 : decode cX0_inWord 36 = .ok (.iadd, 1) := dk_96 (dk_at dksX0_inWord_1 12 rfl rfl)
theorem dX0_inWord_37 : decode cX0_inWord 37 = .ok (.istore_n 3, 1) := dk_62 (dk_at dksX0_inWord_1 13 rfl rfl)
theorem dX0_inWord_38 : decode cX0_inWord 38 = .ok (.iinc 4 1, 3) := dk_132 4 1 (dk_at dksX0_inWord_1 14 rfl rfl)
theorem dX0_inWord_41 : decode cX0_inWord 41 = .ok (.goto (-36), 3) := dk_167 255 220 (dk_at dksX0_inWord_1 17 rfl rfl)
theorem dX0_inWord_44 : decode cX0_inWord 44 = .ok (.iload_n 3, 1) := dk_29 (dk_at dksX0_inWord_1 20 rfl rfl)
theorem dX0_inWord_45 : decode cX0_inWord 45 = .ok (.ireturn, 1) := dk_172 (dk_at dksX0_inWord_1 21 rfl rfl)
abbrev cX0_answer : ByteArray := prog_1_method_49_code
def yX0_answer : MethodName := ⟨RX0, "answer", "(II)I"⟩
def dkwX0_answer_2 : List UInt8 := [167, 0, 4, 2, 172]
abbrev dktX0_answer_2 : List UInt8 := dkwX0_answer_2 ++ []
def dkwX0_answer_1 : List UInt8 := [153, 0, 26, 28, 184, 0, 192, 153, 0, 19, 42, 180, 0, 20, 180, 1, 79, 27, 28, 3, 182, 1, 42]
abbrev dktX0_answer_1 : List UInt8 := dkwX0_answer_1 ++ dktX0_answer_2
def dkwX0_answer_0 : List UInt8 := [27, 2, 160, 0, 16, 42, 180, 0, 20, 180, 1, 79, 182, 1, 37, 167, 0, 34, 27, 184, 0, 192]
abbrev dktX0_answer_0 : List UInt8 := dkwX0_answer_0 ++ dktX0_answer_1
theorem dksX0_answer_0 : cX0_answer.data.toList.drop 0 = dktX0_answer_0 := by decide +kernel
theorem dksX0_answer_1 : cX0_answer.data.toList.drop 22 = dktX0_answer_1 := dk_seg dksX0_answer_0 22 rfl rfl
theorem dksX0_answer_2 : cX0_answer.data.toList.drop 45 = dktX0_answer_2 := dk_seg dksX0_answer_1 23 rfl rfl
theorem dX0_answer_0 : decode cX0_answer 0 = .ok (.iload_n 1, 1) := dk_27 (dk_at dksX0_answer_0 0 rfl rfl)
theorem dX0_answer_1 : decode cX0_answer 1 = .ok (.iconst (-1), 1) := dk_2 (dk_at dksX0_answer_0 1 rfl rfl)
theorem dX0_answer_2 : decode cX0_answer 2 = .ok (.if_icmp .ne 16, 3) := dk_160 0 16 (dk_at dksX0_answer_0 2 rfl rfl)
theorem dX0_answer_5 : decode cX0_answer 5 = .ok (.aload_n 0, 1) := dk_42 (dk_at dksX0_answer_0 5 rfl rfl)
theorem dX0_answer_6 : decode cX0_answer 6 = .ok (.getfield 20, 3) := dk_180 0 20 (dk_at dksX0_answer_0 6 rfl rfl)
theorem dX0_answer_9 : decode cX0_answer 9 = .ok (.getfield 335, 3) := dk_180 1 79 (dk_at dksX0_answer_0 9 rfl rfl)
theorem dX0_answer_12 : decode cX0_answer 12 = .ok (.invokevirtual 293, 3) := dk_182 1 37 (dk_at dksX0_answer_0 12 rfl rfl)
theorem dX0_answer_15 : decode cX0_answer 15 = .ok (.goto 34, 3) := dk_167 0 34 (dk_at dksX0_answer_0 15 rfl rfl)
theorem dX0_answer_18 : decode cX0_answer 18 = .ok (.iload_n 1, 1) := dk_27 (dk_at dksX0_answer_0 18 rfl rfl)
theorem dX0_answer_19 : decode cX0_answer 19 = .ok (.invokestatic 192, 3) := dk_184 0 192 (dk_at dksX0_answer_0 19 rfl rfl)
theorem dX0_answer_22 : decode cX0_answer 22 = .ok (.ifCond .eq 26, 3) := dk_153 0 26 (dk_at dksX0_answer_1 0 rfl rfl)
theorem dX0_answer_25 : decode cX0_answer 25 = .ok (.iload_n 2, 1) := dk_28 (dk_at dksX0_answer_1 3 rfl rfl)
theorem dX0_answer_26 : decode cX0_answer 26 = .ok (.invokestatic 192, 3) := dk_184 0 192 (dk_at dksX0_answer_1 4 rfl rfl)
theorem dX0_answer_29 : decode cX0_answer 29 = .ok (.ifCond .eq 19, 3) := dk_153 0 19 (dk_at dksX0_answer_1 7 rfl rfl)
theorem dX0_answer_32 : decode cX0_answer 32 = .ok (.aload_n 0, 1) := dk_42 (dk_at dksX0_answer_1 10 rfl rfl)
theorem dX0_answer_33 : decode cX0_answer 33 = .ok (.getfield 20, 3) := dk_180 0 20 (dk_at dksX0_answer_1 11 rfl rfl)
theorem dX0_answer_36 : decode cX0_answer 36 = .ok (.getfield 335, 3) := dk_180 1 79 (dk_at dksX0_answer_1 14 rfl rfl)
theorem dX0_answer_39 : decode cX0_answer 39 = .ok (.iload_n 1, 1) := dk_27 (dk_at dksX0_answer_1 17 rfl rfl)
theorem dX0_answer_40 : decode cX0_answer 40 = .ok (.iload_n 2, 1) := dk_28 (dk_at dksX0_answer_1 18 rfl rfl)
theorem dX0_answer_41 : decode cX0_answer 41 = .ok (.iconst 0, 1) := dk_3 (dk_at dksX0_answer_1 19 rfl rfl)
theorem dX0_answer_42 : decode cX0_answer 42 = .ok (.invokevirtual 298, 3) := dk_182 1 42 (dk_at dksX0_answer_1 20 rfl rfl)
theorem dX0_answer_45 : decode cX0_answer 45 = .ok (.goto 4, 3) := dk_167 0 4 (dk_at dksX0_answer_2 0 rfl rfl)
theorem dX0_answer_48 : decode cX0_answer 48 = .ok (.iconst (-1), 1) := dk_2 (dk_at dksX0_answer_2 3 rfl rfl)
theorem dX0_answer_49 : decode cX0_answer 49 = .ok (.ireturn, 1) := dk_172 (dk_at dksX0_answer_2 4 rfl rfl)
abbrev cX0_likely : ByteArray := prog_1_method_52_code
def yX0_likely : MethodName := ⟨RX0, "likely", "(II)I"⟩
def dkwX0_likely_4 : List UInt8 := [21, 4, 172]
abbrev dktX0_likely_4 : List UInt8 := dkwX0_likely_4 ++ []
def dkwX0_likely_3 : List UInt8 := [21, 5, 182, 1, 85, 54, 5, 132, 4, 1, 167, 255, 223, 21, 5, 2, 160, 0, 7, 2, 167, 0, 5]
abbrev dktX0_likely_3 : List UInt8 := dkwX0_likely_3 ++ dktX0_likely_4
def dkwX0_likely_2 : List UInt8 := [21, 5, 2, 159, 0, 33, 29, 21, 5, 122, 4, 126, 154, 0, 24, 29, 4, 21, 5, 120, 128, 62, 42]
abbrev dktX0_likely_2 : List UInt8 := dkwX0_likely_2 ++ dktX0_likely_3
def dkwX0_likely_1 : List UInt8 := [182, 1, 85, 172, 42, 27, 182, 1, 85, 2, 160, 0, 5, 3, 172, 3, 62, 3, 54, 4, 27, 54, 5]
abbrev dktX0_likely_1 : List UInt8 := dkwX0_likely_1 ++ dktX0_likely_2
def dkwX0_likely_0 : List UInt8 := [27, 184, 0, 192, 153, 0, 12, 28, 3, 4, 184, 0, 78, 154, 0, 5, 2, 172, 28, 154, 0, 9, 42, 27]
abbrev dktX0_likely_0 : List UInt8 := dkwX0_likely_0 ++ dktX0_likely_1
theorem dksX0_likely_0 : cX0_likely.data.toList.drop 0 = dktX0_likely_0 := by decide +kernel
theorem dksX0_likely_1 : cX0_likely.data.toList.drop 24 = dktX0_likely_1 := dk_seg dksX0_likely_0 24 rfl rfl
theorem dksX0_likely_2 : cX0_likely.data.toList.drop 47 = dktX0_likely_2 := dk_seg dksX0_likely_1 23 rfl rfl
theorem dksX0_likely_3 : cX0_likely.data.toList.drop 70 = dktX0_likely_3 := dk_seg dksX0_likely_2 23 rfl rfl
theorem dksX0_likely_4 : cX0_likely.data.toList.drop 93 = dktX0_likely_4 := dk_seg dksX0_likely_3 23 rfl rfl
theorem dX0_likely_0 : decode cX0_likely 0 = .ok (.iload_n 1, 1) := dk_27 (dk_at dksX0_likely_0 0 rfl rfl)
theorem dX0_likely_1 : decode cX0_likely 1 = .ok (.invokestatic 192, 3) := dk_184 0 192 (dk_at dksX0_likely_0 1 rfl rfl)
theorem dX0_likely_4 : decode cX0_likely 4 = .ok (.ifCond .eq 12, 3) := dk_153 0 12 (dk_at dksX0_likely_0 4 rfl rfl)
theorem dX0_likely_7 : decode cX0_likely 7 = .ok (.iload_n 2, 1) := dk_28 (dk_at dksX0_likely_0 7 rfl rfl)
theorem dX0_likely_8 : decode cX0_likely 8 = .ok (.iconst 0, 1) := dk_3 (dk_at dksX0_likely_0 8 rfl rfl)
theorem dX0_likely_9 : decode cX0_likely 9 = .ok (.iconst 1, 1) := dk_4 (dk_at dksX0_likely_0 9 rfl rfl)
theorem dX0_likely_10 : decode cX0_likely 10 = .ok (.invokestatic 78, 3) := dk_184 0 78 (dk_at dksX0_likely_0 10 rfl rfl)
theorem dX0_likely_13 : decode cX0_likely 13 = .ok (.ifCond .ne 5, 3) := dk_154 0 5 (dk_at dksX0_likely_0 13 rfl rfl)
theorem dX0_likely_16 : decode cX0_likely 16 = .ok (.iconst (-1), 1) := dk_2 (dk_at dksX0_likely_0 16 rfl rfl)
theorem dX0_likely_17 : decode cX0_likely 17 = .ok (.ireturn, 1) := dk_172 (dk_at dksX0_likely_0 17 rfl rfl)
theorem dX0_likely_18 : decode cX0_likely 18 = .ok (.iload_n 2, 1) := dk_28 (dk_at dksX0_likely_0 18 rfl rfl)
theorem dX0_likely_19 : decode cX0_likely 19 = .ok (.ifCond .ne 9, 3) := dk_154 0 9 (dk_at dksX0_likely_0 19 rfl rfl)
theorem dX0_likely_22 : decode cX0_likely 22 = .ok (.aload_n 0, 1) := dk_42 (dk_at dksX0_likely_0 22 rfl rfl)
theorem dX0_likely_23 : decode cX0_likely 23 = .ok (.iload_n 1, 1) := dk_27 (dk_at dksX0_likely_0 23 rfl rfl)
theorem dX0_likely_24 : decode cX0_likely 24 = .ok (.invokevirtual 341, 3) := dk_182 1 85 (dk_at dksX0_likely_1 0 rfl rfl)
theorem dX0_likely_27 : decode cX0_likely 27 = .ok (.ireturn, 1) := dk_172 (dk_at dksX0_likely_1 3 rfl rfl)
theorem dX0_likely_28 : decode cX0_likely 28 = .ok (.aload_n 0, 1) := dk_42 (dk_at dksX0_likely_1 4 rfl rfl)
theorem dX0_likely_29 : decode cX0_likely 29 = .ok (.iload_n 1, 1) := dk_27 (dk_at dksX0_likely_1 5 rfl rfl)
theorem dX0_likely_30 : decode cX0_likely 30 = .ok (.invokevirtual 341, 3) := dk_182 1 85 (dk_at dksX0_likely_1 6 rfl rfl)
theorem dX0_likely_33 : decode cX0_likely 33 = .ok (.iconst (-1), 1) := dk_2 (dk_at dksX0_likely_1 9 rfl rfl)
theorem dX0_likely_34 : decode cX0_likely 34 = .ok (.if_icmp .ne 5, 3) := dk_160 0 5 (dk_at dksX0_likely_1 10 rfl rfl)
theorem dX0_likely_37 : decode cX0_likely 37 = .ok (.iconst 0, 1) := dk_3 (dk_at dksX0_likely_1 13 rfl rfl)
theorem dX0_likely_38 : decode cX0_likely 38 = .ok (.ireturn, 1) := dk_172 (dk_at dksX0_likely_1 14 rfl rfl)
theorem dX0_likely_39 : decode cX0_likely 39 = .ok (.iconst 0, 1) := dk_3 (dk_at dksX0_likely_1 15 rfl rfl)
theorem dX0_likely_40 : decode cX0_likely 40 = .ok (.istore_n 3, 1) := dk_62 (dk_at dksX0_likely_1 16 rfl rfl)
theorem dX0_likely_41 : decode cX0_likely 41 = .ok (.iconst 0, 1) := dk_3 (dk_at dksX0_likely_1 17 rfl rfl)
theorem dX0_likely_42 : decode cX0_likely 42 = .ok (.istore 4, 2) := dk_54 4 (dk_at dksX0_likely_1 18 rfl rfl)
theorem dX0_likely_44 : decode cX0_likely 44 = .ok (.iload_n 1, 1) := dk_27 (dk_at dksX0_likely_1 20 rfl rfl)
theorem dX0_likely_45 : decode cX0_likely 45 = .ok (.istore 5, 2) := dk_54 5 (dk_at dksX0_likely_1 21 rfl rfl)
theorem dX0_likely_47 : decode cX0_likely 47 = .ok (.iload 5, 2) := dk_21 5 (dk_at dksX0_likely_2 0 rfl rfl)
theorem dX0_likely_49 : decode cX0_likely 49 = .ok (.iconst (-1), 1) := dk_2 (dk_at dksX0_likely_2 2 rfl rfl)
theorem dX0_likely_50 : decode cX0_likely 50 = .ok (.if_icmp .eq 33, 3) := dk_159 0 33 (dk_at dksX0_likely_2 3 rfl rfl)
theorem dX0_likely_53 : decode cX0_likely 53 = .ok (.iload_n 3, 1) := dk_29 (dk_at dksX0_likely_2 6 rfl rfl)
theorem dX0_likely_54 : decode cX0_likely 54 = .ok (.iload 5, 2) := dk_21 5 (dk_at dksX0_likely_2 7 rfl rfl)
theorem dX0_likely_56 : decode cX0_likely 56 = .ok (.ishr, 1) := dk_122 (dk_at dksX0_likely_2 9 rfl rfl)
theorem dX0_likely_57 : decode cX0_likely 57 = .ok (.iconst 1, 1) := dk_4 (dk_at dksX0_likely_2 10 rfl rfl)
theorem dX0_likely_58 : decode cX0_likely 58 = .ok (.iand, 1) := dk_126 (dk_at dksX0_likely_2 11 rfl rfl)
theorem dX0_likely_59 : decode cX0_likely 59 = .ok (.ifCond .ne 24, 3) := dk_154 0 24 (dk_at dksX0_likely_2 12 rfl rfl)
theorem dX0_likely_62 : decode cX0_likely 62 = .ok (.iload_n 3, 1) := dk_29 (dk_at dksX0_likely_2 15 rfl rfl)
theorem dX0_likely_63 : decode cX0_likely 63 = .ok (.iconst 1, 1) := dk_4 (dk_at dksX0_likely_2 16 rfl rfl)
theorem dX0_likely_64 : decode cX0_likely 64 = .ok (.iload 5, 2) := dk_21 5 (dk_at dksX0_likely_2 17 rfl rfl)
theorem dX0_likely_66 : decode cX0_likely 66 = .ok (.ishl, 1) := dk_120 (dk_at dksX0_likely_2 19 rfl rfl)
theorem dX0_likely_67 : decode cX0_likely 67 = .ok (.ior, 1) := dk_128 (dk_at dksX0_likely_2 20 rfl rfl)
theorem dX0_likely_68 : decode cX0_likely 68 = .ok (.istore_n 3, 1) := dk_62 (dk_at dksX0_likely_2 21 rfl rfl)
theorem dX0_likely_69 : decode cX0_likely 69 = .ok (.aload_n 0, 1) := dk_42 (dk_at dksX0_likely_2 22 rfl rfl)
theorem dX0_likely_70 : decode cX0_likely 70 = .ok (.iload 5, 2) := dk_21 5 (dk_at dksX0_likely_3 0 rfl rfl)
theorem dX0_likely_72 : decode cX0_likely 72 = .ok (.invokevirtual 341, 3) := dk_182 1 85 (dk_at dksX0_likely_3 2 rfl rfl)
theorem dX0_likely_75 : decode cX0_likely 75 = .ok (.istore 5, 2) := dk_54 5 (dk_at dksX0_likely_3 5 rfl rfl)
theorem dX0_likely_77 : decode cX0_likely 77 = .ok (.iinc 4 1, 3) := dk_132 4 1 (dk_at dksX0_likely_3 7 rfl rfl)
theorem dX0_likely_80 : decode cX0_likely 80 = .ok (.goto (-33), 3) := dk_167 255 223 (dk_at dksX0_likely_3 10 rfl rfl)
theorem dX0_likely_83 : decode cX0_likely 83 = .ok (.iload 5, 2) := dk_21 5 (dk_at dksX0_likely_3 13 rfl rfl)
theorem dX0_likely_85 : decode cX0_likely 85 = .ok (.iconst (-1), 1) := dk_2 (dk_at dksX0_likely_3 15 rfl rfl)
theorem dX0_likely_86 : decode cX0_likely 86 = .ok (.if_icmp .ne 7, 3) := dk_160 0 7 (dk_at dksX0_likely_3 16 rfl rfl)
theorem dX0_likely_89 : decode cX0_likely 89 = .ok (.iconst (-1), 1) := dk_2 (dk_at dksX0_likely_3 19 rfl rfl)
theorem dX0_likely_90 : decode cX0_likely 90 = .ok (.goto 5, 3) := dk_167 0 5 (dk_at dksX0_likely_3 20 rfl rfl)
theorem dX0_likely_93 : decode cX0_likely 93 = .ok (.iload 4, 2) := dk_21 4 (dk_at dksX0_likely_4 0 rfl rfl)
theorem dX0_likely_95 : decode cX0_likely 95 = .ok (.ireturn, 1) := dk_172 (dk_at dksX0_likely_4 2 rfl rfl)
abbrev cX0_likelyOf : ByteArray := prog_1_method_51_code
def yX0_likelyOf : MethodName := ⟨RX0, "likelyOf", "(I)I"⟩
def dkwX0_likelyOf_2 : List UInt8 := [2, 167, 0, 4, 28, 172]
abbrev dktX0_likelyOf_2 : List UInt8 := dkwX0_likelyOf_2 ++ []
def dkwX0_likelyOf_1 : List UInt8 := [164, 0, 7, 29, 167, 0, 4, 28, 61, 132, 3, 1, 167, 255, 226, 42, 27, 28, 182, 1, 82, 154, 0, 7]
abbrev dktX0_likelyOf_1 : List UInt8 := dkwX0_likelyOf_1 ++ dktX0_likelyOf_2
def dkwX0_likelyOf_0 : List UInt8 := [3, 61, 4, 62, 29, 16, 7, 162, 0, 30, 42, 27, 29, 182, 1, 82, 42, 27, 28, 182, 1, 82]
abbrev dktX0_likelyOf_0 : List UInt8 := dkwX0_likelyOf_0 ++ dktX0_likelyOf_1
theorem dksX0_likelyOf_0 : cX0_likelyOf.data.toList.drop 0 = dktX0_likelyOf_0 := by decide +kernel
theorem dksX0_likelyOf_1 : cX0_likelyOf.data.toList.drop 22 = dktX0_likelyOf_1 := dk_seg dksX0_likelyOf_0 22 rfl rfl
theorem dksX0_likelyOf_2 : cX0_likelyOf.data.toList.drop 46 = dktX0_likelyOf_2 := dk_seg dksX0_likelyOf_1 24 rfl rfl
theorem dX0_likelyOf_0 : decode cX0_likelyOf 0 = .ok (.iconst 0, 1) := dk_3 (dk_at dksX0_likelyOf_0 0 rfl rfl)
theorem dX0_likelyOf_1 : decode cX0_likelyOf 1 = .ok (.istore_n 2, 1) := dk_61 (dk_at dksX0_likelyOf_0 1 rfl rfl)
theorem dX0_likelyOf_2 : decode cX0_likelyOf 2 = .ok (.iconst 1, 1) := dk_4 (dk_at dksX0_likelyOf_0 2 rfl rfl)
theorem dX0_likelyOf_3 : decode cX0_likelyOf 3 = .ok (.istore_n 3, 1) := dk_62 (dk_at dksX0_likelyOf_0 3 rfl rfl)
theorem dX0_likelyOf_4 : decode cX0_likelyOf 4 = .ok (.iload_n 3, 1) := dk_29 (dk_at dksX0_likelyOf_0 4 rfl rfl)
theorem dX0_likelyOf_5 : decode cX0_likelyOf 5 = .ok (.bipush 7, 2) := dk_16 7 (dk_at dksX0_likelyOf_0 5 rfl rfl)
theorem dX0_likelyOf_7 : decode cX0_likelyOf 7 = .ok (.if_icmp .ge 30, 3) := dk_162 0 30 (dk_at dksX0_likelyOf_0 7 rfl rfl)
theorem dX0_likelyOf_10 : decode cX0_likelyOf 10 = .ok (.aload_n 0, 1) := dk_42 (dk_at dksX0_likelyOf_0 10 rfl rfl)
theorem dX0_likelyOf_11 : decode cX0_likelyOf 11 = .ok (.iload_n 1, 1) := dk_27 (dk_at dksX0_likelyOf_0 11 rfl rfl)
theorem dX0_likelyOf_12 : decode cX0_likelyOf 12 = .ok (.iload_n 3, 1) := dk_29 (dk_at dksX0_likelyOf_0 12 rfl rfl)
theorem dX0_likelyOf_13 : decode cX0_likelyOf 13 = .ok (.invokevirtual 338, 3) := dk_182 1 82 (dk_at dksX0_likelyOf_0 13 rfl rfl)
theorem dX0_likelyOf_16 : decode cX0_likelyOf 16 = .ok (.aload_n 0, 1) := dk_42 (dk_at dksX0_likelyOf_0 16 rfl rfl)
theorem dX0_likelyOf_17 : decode cX0_likelyOf 17 = .ok (.iload_n 1, 1) := dk_27 (dk_at dksX0_likelyOf_0 17 rfl rfl)
theorem dX0_likelyOf_18 : decode cX0_likelyOf 18 = .ok (.iload_n 2, 1) := dk_28 (dk_at dksX0_likelyOf_0 18 rfl rfl)
theorem dX0_likelyOf_19 : decode cX0_likelyOf 19 = .ok (.invokevirtual 338, 3) := dk_182 1 82 (dk_at dksX0_likelyOf_0 19 rfl rfl)
theorem dX0_likelyOf_22 : decode cX0_likelyOf 22 = .ok (.if_icmp .le 7, 3) := dk_164 0 7 (dk_at dksX0_likelyOf_1 0 rfl rfl)
theorem dX0_likelyOf_25 : decode cX0_likelyOf 25 = .ok (.iload_n 3, 1) := dk_29 (dk_at dksX0_likelyOf_1 3 rfl rfl)
theorem dX0_likelyOf_26 : decode cX0_likelyOf 26 = .ok (.goto 4, 3) := dk_167 0 4 (dk_at dksX0_likelyOf_1 4 rfl rfl)
theorem dX0_likelyOf_29 : decode cX0_likelyOf 29 = .ok (.iload_n 2, 1) := dk_28 (dk_at dksX0_likelyOf_1 7 rfl rfl)
theorem dX0_likelyOf_30 : decode cX0_likelyOf 30 = .ok (.istore_n 2, 1) := dk_61 (dk_at dksX0_likelyOf_1 8 rfl rfl)
theorem dX0_likelyOf_31 : decode cX0_likelyOf 31 = .ok (.iinc 3 1, 3) := dk_132 3 1 (dk_at dksX0_likelyOf_1 9 rfl rfl)
theorem dX0_likelyOf_34 : decode cX0_likelyOf 34 = .ok (.goto (-30), 3) := dk_167 255 226 (dk_at dksX0_likelyOf_1 12 rfl rfl)
theorem dX0_likelyOf_37 : decode cX0_likelyOf 37 = .ok (.aload_n 0, 1) := dk_42 (dk_at dksX0_likelyOf_1 15 rfl rfl)
theorem dX0_likelyOf_38 : decode cX0_likelyOf 38 = .ok (.iload_n 1, 1) := dk_27 (dk_at dksX0_likelyOf_1 16 rfl rfl)
theorem dX0_likelyOf_39 : decode cX0_likelyOf 39 = .ok (.iload_n 2, 1) := dk_28 (dk_at dksX0_likelyOf_1 17 rfl rfl)
theorem dX0_likelyOf_40 : decode cX0_likelyOf 40 = .ok (.invokevirtual 338, 3) := dk_182 1 82 (dk_at dksX0_likelyOf_1 18 rfl rfl)
theorem dX0_likelyOf_43 : decode cX0_likelyOf 43 = .ok (.ifCond .ne 7, 3) := dk_154 0 7 (dk_at dksX0_likelyOf_1 21 rfl rfl)
theorem dX0_likelyOf_46 : decode cX0_likelyOf 46 = .ok (.iconst (-1), 1) := dk_2 (dk_at dksX0_likelyOf_2 0 rfl rfl)
theorem dX0_likelyOf_47 : decode cX0_likelyOf 47 = .ok (.goto 4, 3) := dk_167 0 4 (dk_at dksX0_likelyOf_2 1 rfl rfl)
theorem dX0_likelyOf_50 : decode cX0_likelyOf 50 = .ok (.iload_n 2, 1) := dk_28 (dk_at dksX0_likelyOf_2 4 rfl rfl)
theorem dX0_likelyOf_51 : decode cX0_likelyOf 51 = .ok (.ireturn, 1) := dk_172 (dk_at dksX0_likelyOf_2 5 rfl rfl)
abbrev cX0_answered : ByteArray := prog_1_method_50_code
def yX0_answered : MethodName := ⟨RX0, "answered", "(II)I"⟩
def dkwX0_answered_3 : List UInt8 := [132, 4, 1, 167, 255, 192, 29, 172]
abbrev dktX0_answered_3 : List UInt8 := dkwX0_answered_3 ++ []
def dkwX0_answered_2 : List UInt8 := [180, 1, 79, 180, 1, 52, 21, 4, 50, 4, 46, 28, 160, 0, 7, 4, 167, 0, 4, 3, 96, 62]
abbrev dktX0_answered_2 : List UInt8 := dkwX0_answered_2 ++ dktX0_answered_3
def dkwX0_answered_1 : List UInt8 := [180, 0, 20, 180, 1, 79, 180, 1, 52, 21, 4, 50, 3, 46, 27, 160, 0, 26, 42, 180, 0, 20]
abbrev dktX0_answered_1 : List UInt8 := dkwX0_answered_1 ++ dktX0_answered_2
def dkwX0_answered_0 : List UInt8 := [3, 62, 3, 54, 4, 21, 4, 42, 180, 0, 20, 180, 1, 79, 180, 1, 46, 162, 0, 55, 29, 42]
abbrev dktX0_answered_0 : List UInt8 := dkwX0_answered_0 ++ dktX0_answered_1
theorem dksX0_answered_0 : cX0_answered.data.toList.drop 0 = dktX0_answered_0 := by decide +kernel
theorem dksX0_answered_1 : cX0_answered.data.toList.drop 22 = dktX0_answered_1 := dk_seg dksX0_answered_0 22 rfl rfl
theorem dksX0_answered_2 : cX0_answered.data.toList.drop 44 = dktX0_answered_2 := dk_seg dksX0_answered_1 22 rfl rfl
theorem dksX0_answered_3 : cX0_answered.data.toList.drop 66 = dktX0_answered_3 := dk_seg dksX0_answered_2 22 rfl rfl
theorem dX0_answered_0 : decode cX0_answered 0 = .ok (.iconst 0, 1) := dk_3 (dk_at dksX0_answered_0 0 rfl rfl)
theorem dX0_answered_1 : decode cX0_answered 1 = .ok (.istore_n 3, 1) := dk_62 (dk_at dksX0_answered_0 1 rfl rfl)
theorem dX0_answered_2 : decode cX0_answered 2 = .ok (.iconst 0, 1) := dk_3 (dk_at dksX0_answered_0 2 rfl rfl)
theorem dX0_answered_3 : decode cX0_answered 3 = .ok (.istore 4, 2) := dk_54 4 (dk_at dksX0_answered_0 3 rfl rfl)
theorem dX0_answered_5 : decode cX0_answered 5 = .ok (.iload 4, 2) := dk_21 4 (dk_at dksX0_answered_0 5 rfl rfl)
theorem dX0_answered_7 : decode cX0_answered 7 = .ok (.aload_n 0, 1) := dk_42 (dk_at dksX0_answered_0 7 rfl rfl)
theorem dX0_answered_8 : decode cX0_answered 8 = .ok (.getfield 20, 3) := dk_180 0 20 (dk_at dksX0_answered_0 8 rfl rfl)
theorem dX0_answered_11 : decode cX0_answered 11 = .ok (.getfield 335, 3) := dk_180 1 79 (dk_at dksX0_answered_0 11 rfl rfl)
theorem dX0_answered_14 : decode cX0_answered 14 = .ok (.getfield 302, 3) := dk_180 1 46 (dk_at dksX0_answered_0 14 rfl rfl)
theorem dX0_answered_17 : decode cX0_answered 17 = .ok (.if_icmp .ge 55, 3) := dk_162 0 55 (dk_at dksX0_answered_0 17 rfl rfl)
theorem dX0_answered_20 : decode cX0_answered 20 = .ok (.iload_n 3, 1) := dk_29 (dk_at dksX0_answered_0 20 rfl rfl)
theorem dX0_answered_21 : decode cX0_answered 21 = .ok (.aload_n 0, 1) := dk_42 (dk_at dksX0_answered_0 21 rfl rfl)
theorem dX0_answered_22 : decode cX0_answered 22 = .ok (.getfield 20, 3) := dk_180 0 20 (dk_at dksX0_answered_1 0 rfl rfl)
theorem dX0_answered_25 : decode cX0_answered 25 = .ok (.getfield 335, 3) := dk_180 1 79 (dk_at dksX0_answered_1 3 rfl rfl)
theorem dX0_answered_28 : decode cX0_answered 28 = .ok (.getfield 308, 3) := dk_180 1 52 (dk_at dksX0_answered_1 6 rfl rfl)
theorem dX0_answered_31 : decode cX0_answered 31 = .ok (.iload 4, 2) := dk_21 4 (dk_at dksX0_answered_1 9 rfl rfl)
theorem dX0_answered_33 : decode cX0_answered 33 = .ok (.aaload, 1) := dk_50 (dk_at dksX0_answered_1 11 rfl rfl)
theorem dX0_answered_34 : decode cX0_answered 34 = .ok (.iconst 0, 1) := dk_3 (dk_at dksX0_answered_1 12 rfl rfl)
theorem dX0_answered_35 : decode cX0_answered 35 = .ok (.iaload, 1) := dk_46 (dk_at dksX0_answered_1 13 rfl rfl)
theorem dX0_answered_36 : decode cX0_answered 36 = .ok (.iload_n 1, 1) := dk_27 (dk_at dksX0_answered_1 14 rfl rfl)
theorem dX0_answered_37 : decode cX0_answered 37 = .ok (.if_icmp .ne 26, 3) := dk_160 0 26 (dk_at dksX0_answered_1 15 rfl rfl)
theorem dX0_answered_40 : decode cX0_answered 40 = .ok (.aload_n 0, 1) := dk_42 (dk_at dksX0_answered_1 18 rfl rfl)
theorem dX0_answered_41 : decode cX0_answered 41 = .ok (.getfield 20, 3) := dk_180 0 20 (dk_at dksX0_answered_1 19 rfl rfl)
theorem dX0_answered_44 : decode cX0_answered 44 = .ok (.getfield 335, 3) := dk_180 1 79 (dk_at dksX0_answered_2 0 rfl rfl)
theorem dX0_answered_47 : decode cX0_answered 47 = .ok (.getfield 308, 3) := dk_180 1 52 (dk_at dksX0_answered_2 3 rfl rfl)
theorem dX0_answered_50 : decode cX0_answered 50 = .ok (.iload 4, 2) := dk_21 4 (dk_at dksX0_answered_2 6 rfl rfl)
theorem dX0_answered_52 : decode cX0_answered 52 = .ok (.aaload, 1) := dk_50 (dk_at dksX0_answered_2 8 rfl rfl)
theorem dX0_answered_53 : decode cX0_answered 53 = .ok (.iconst 1, 1) := dk_4 (dk_at dksX0_answered_2 9 rfl rfl)
theorem dX0_answered_54 : decode cX0_answered 54 = .ok (.iaload, 1) := dk_46 (dk_at dksX0_answered_2 10 rfl rfl)
theorem dX0_answered_55 : decode cX0_answered 55 = .ok (.iload_n 2, 1) := dk_28 (dk_at dksX0_answered_2 11 rfl rfl)
theorem dX0_answered_56 : decode cX0_answered 56 = .ok (.if_icmp .ne 7, 3) := dk_160 0 7 (dk_at dksX0_answered_2 12 rfl rfl)
theorem dX0_answered_59 : decode cX0_answered 59 = .ok (.iconst 1, 1) := dk_4 (dk_at dksX0_answered_2 15 rfl rfl)
theorem dX0_answered_60 : decode cX0_answered 60 = .ok (.goto 4, 3) := dk_167 0 4 (dk_at dksX0_answered_2 16 rfl rfl)
theorem dX0_answered_63 : decode cX0_answered 63 = .ok (.iconst 0, 1) := dk_3 (dk_at dksX0_answered_2 19 rfl rfl)
theorem dX0_answered_64 : decode cX0_answered 64 = .ok (.iadd, 1) := dk_96 (dk_at dksX0_answered_2 20 rfl rfl)
theorem dX0_answered_65 : decode cX0_answered 65 = .ok (.istore_n 3, 1) := dk_62 (dk_at dksX0_answered_2 21 rfl rfl)
theorem dX0_answered_66 : decode cX0_answered 66 = .ok (.iinc 4 1, 3) := dk_132 4 1 (dk_at dksX0_answered_3 0 rfl rfl)
theorem dX0_answered_69 : decode cX0_answered 69 = .ok (.goto (-64), 3) := dk_167 255 192 (dk_at dksX0_answered_3 3 rfl rfl)
theorem dX0_answered_72 : decode cX0_answered 72 = .ok (.iload_n 3, 1) := dk_29 (dk_at dksX0_answered_3 6 rfl rfl)
theorem dX0_answered_73 : decode cX0_answered 73 = .ok (.ireturn, 1) := dk_172 (dk_at dksX0_answered_3 7 rfl rfl)
abbrev cX0_face : ByteArray := prog_1_method_53_code
def yX0_face : MethodName := ⟨RX0, "face", "(II)I"⟩
def dkwX0_face_2 : List UInt8 := [28, 3, 182, 1, 42, 167, 0, 4, 2, 172]
abbrev dktX0_face_2 : List UInt8 := dkwX0_face_2 ++ []
def dkwX0_face_1 : List UInt8 := [184, 0, 78, 153, 0, 29, 28, 16, 254, 5, 184, 0, 78, 153, 0, 19, 42, 180, 0, 20, 180, 1, 88, 27]
abbrev dktX0_face_1 : List UInt8 := dkwX0_face_1 ++ dktX0_face_2
def dkwX0_face_0 : List UInt8 := [27, 2, 160, 0, 16, 42, 180, 0, 20, 180, 1, 88, 182, 1, 37, 167, 0, 40, 27, 3, 16, 63]
abbrev dktX0_face_0 : List UInt8 := dkwX0_face_0 ++ dktX0_face_1
theorem dksX0_face_0 : cX0_face.data.toList.drop 0 = dktX0_face_0 := by decide +kernel
theorem dksX0_face_1 : cX0_face.data.toList.drop 22 = dktX0_face_1 := dk_seg dksX0_face_0 22 rfl rfl
theorem dksX0_face_2 : cX0_face.data.toList.drop 46 = dktX0_face_2 := dk_seg dksX0_face_1 24 rfl rfl
theorem dX0_face_0 : decode cX0_face 0 = .ok (.iload_n 1, 1) := dk_27 (dk_at dksX0_face_0 0 rfl rfl)
theorem dX0_face_1 : decode cX0_face 1 = .ok (.iconst (-1), 1) := dk_2 (dk_at dksX0_face_0 1 rfl rfl)
theorem dX0_face_2 : decode cX0_face 2 = .ok (.if_icmp .ne 16, 3) := dk_160 0 16 (dk_at dksX0_face_0 2 rfl rfl)
theorem dX0_face_5 : decode cX0_face 5 = .ok (.aload_n 0, 1) := dk_42 (dk_at dksX0_face_0 5 rfl rfl)
theorem dX0_face_6 : decode cX0_face 6 = .ok (.getfield 20, 3) := dk_180 0 20 (dk_at dksX0_face_0 6 rfl rfl)
theorem dX0_face_9 : decode cX0_face 9 = .ok (.getfield 344, 3) := dk_180 1 88 (dk_at dksX0_face_0 9 rfl rfl)
theorem dX0_face_12 : decode cX0_face 12 = .ok (.invokevirtual 293, 3) := dk_182 1 37 (dk_at dksX0_face_0 12 rfl rfl)
theorem dX0_face_15 : decode cX0_face 15 = .ok (.goto 40, 3) := dk_167 0 40 (dk_at dksX0_face_0 15 rfl rfl)
theorem dX0_face_18 : decode cX0_face 18 = .ok (.iload_n 1, 1) := dk_27 (dk_at dksX0_face_0 18 rfl rfl)
theorem dX0_face_19 : decode cX0_face 19 = .ok (.iconst 0, 1) := dk_3 (dk_at dksX0_face_0 19 rfl rfl)
theorem dX0_face_20 : decode cX0_face 20 = .ok (.bipush 63, 2) := dk_16 63 (dk_at dksX0_face_0 20 rfl rfl)
theorem dX0_face_22 : decode cX0_face 22 = .ok (.invokestatic 78, 3) := dk_184 0 78 (dk_at dksX0_face_1 0 rfl rfl)
theorem dX0_face_25 : decode cX0_face 25 = .ok (.ifCond .eq 29, 3) := dk_153 0 29 (dk_at dksX0_face_1 3 rfl rfl)
theorem dX0_face_28 : decode cX0_face 28 = .ok (.iload_n 2, 1) := dk_28 (dk_at dksX0_face_1 6 rfl rfl)
theorem dX0_face_29 : decode cX0_face 29 = .ok (.bipush (-2), 2) := dk_16 254 (dk_at dksX0_face_1 7 rfl rfl)
theorem dX0_face_31 : decode cX0_face 31 = .ok (.iconst 2, 1) := dk_5 (dk_at dksX0_face_1 9 rfl rfl)
theorem dX0_face_32 : decode cX0_face 32 = .ok (.invokestatic 78, 3) := dk_184 0 78 (dk_at dksX0_face_1 10 rfl rfl)
theorem dX0_face_35 : decode cX0_face 35 = .ok (.ifCond .eq 19, 3) := dk_153 0 19 (dk_at dksX0_face_1 13 rfl rfl)
theorem dX0_face_38 : decode cX0_face 38 = .ok (.aload_n 0, 1) := dk_42 (dk_at dksX0_face_1 16 rfl rfl)
theorem dX0_face_39 : decode cX0_face 39 = .ok (.getfield 20, 3) := dk_180 0 20 (dk_at dksX0_face_1 17 rfl rfl)
theorem dX0_face_42 : decode cX0_face 42 = .ok (.getfield 344, 3) := dk_180 1 88 (dk_at dksX0_face_1 20 rfl rfl)
theorem dX0_face_45 : decode cX0_face 45 = .ok (.iload_n 1, 1) := dk_27 (dk_at dksX0_face_1 23 rfl rfl)
theorem dX0_face_46 : decode cX0_face 46 = .ok (.iload_n 2, 1) := dk_28 (dk_at dksX0_face_2 0 rfl rfl)
theorem dX0_face_47 : decode cX0_face 47 = .ok (.iconst 0, 1) := dk_3 (dk_at dksX0_face_2 1 rfl rfl)
theorem dX0_face_48 : decode cX0_face 48 = .ok (.invokevirtual 298, 3) := dk_182 1 42 (dk_at dksX0_face_2 2 rfl rfl)
theorem dX0_face_51 : decode cX0_face 51 = .ok (.goto 4, 3) := dk_167 0 4 (dk_at dksX0_face_2 5 rfl rfl)
theorem dX0_face_54 : decode cX0_face 54 = .ok (.iconst (-1), 1) := dk_2 (dk_at dksX0_face_2 8 rfl rfl)
theorem dX0_face_55 : decode cX0_face 55 = .ok (.ireturn, 1) := dk_172 (dk_at dksX0_face_2 9 rfl rfl)
abbrev cX0_faces : ByteArray := prog_1_method_57_code
def yX0_faces : MethodName := ⟨RX0, "faces", "(I)I"⟩
def dkwX0_faces_7 : List UInt8 := [154, 0, 11, 28, 19, 1, 58, 112, 167, 0, 4, 29, 172]
abbrev dktX0_faces_7 : List UInt8 := dkwX0_faces_7 ++ []
def dkwX0_faces_6 : List UInt8 := [184, 1, 47, 4, 160, 0, 10, 4, 21, 4, 120, 167, 0, 4, 3, 128, 62, 132, 4, 1, 167, 255, 221, 27]
abbrev dktX0_faces_6 : List UInt8 := dkwX0_faces_6 ++ dktX0_faces_7
def dkwX0_faces_5 : List UInt8 := [167, 255, 177, 3, 62, 3, 54, 4, 21, 4, 16, 6, 162, 0, 34, 29, 42, 180, 0, 59, 21, 4, 46]
abbrev dktX0_faces_5 : List UInt8 := dkwX0_faces_5 ++ dktX0_faces_6
def dkwX0_faces_4 : List UInt8 := [184, 1, 91, 4, 96, 120, 128, 79, 132, 5, 1, 167, 255, 212, 28, 21, 4, 96, 61, 132, 3, 1]
abbrev dktX0_faces_4 : List UInt8 := dkwX0_faces_4 ++ dktX0_faces_5
def dkwX0_faces_3 : List UInt8 := [29, 21, 5, 184, 1, 91, 184, 1, 97, 104, 54, 4, 42, 180, 0, 59, 21, 5, 92, 46, 4, 29, 21, 5]
abbrev dktX0_faces_3 : List UInt8 := dkwX0_faces_3 ++ dktX0_faces_4
def dkwX0_faces_2 : List UInt8 := [182, 1, 94, 154, 0, 6, 167, 0, 61, 4, 54, 4, 3, 54, 5, 21, 5, 16, 6, 162, 0, 43, 21, 4]
abbrev dktX0_faces_2 : List UInt8 := dkwX0_faces_2 ++ dktX0_faces_3
def dkwX0_faces_1 : List UInt8 := [180, 0, 59, 29, 3, 79, 132, 3, 1, 167, 255, 240, 3, 62, 29, 17, 16, 0, 162, 0, 78, 42, 29]
abbrev dktX0_faces_1 : List UInt8 := dkwX0_faces_1 ++ dktX0_faces_2
def dkwX0_faces_0 : List UInt8 := [27, 3, 4, 184, 0, 78, 154, 0, 5, 2, 172, 3, 61, 3, 62, 29, 16, 6, 162, 0, 16, 42]
abbrev dktX0_faces_0 : List UInt8 := dkwX0_faces_0 ++ dktX0_faces_1
theorem dksX0_faces_0 : cX0_faces.data.toList.drop 0 = dktX0_faces_0 := by decide +kernel
theorem dksX0_faces_1 : cX0_faces.data.toList.drop 22 = dktX0_faces_1 := dk_seg dksX0_faces_0 22 rfl rfl
theorem dksX0_faces_2 : cX0_faces.data.toList.drop 45 = dktX0_faces_2 := dk_seg dksX0_faces_1 23 rfl rfl
theorem dksX0_faces_3 : cX0_faces.data.toList.drop 69 = dktX0_faces_3 := dk_seg dksX0_faces_2 24 rfl rfl
theorem dksX0_faces_4 : cX0_faces.data.toList.drop 93 = dktX0_faces_4 := dk_seg dksX0_faces_3 24 rfl rfl
theorem dksX0_faces_5 : cX0_faces.data.toList.drop 115 = dktX0_faces_5 := dk_seg dksX0_faces_4 22 rfl rfl
theorem dksX0_faces_6 : cX0_faces.data.toList.drop 138 = dktX0_faces_6 := dk_seg dksX0_faces_5 23 rfl rfl
theorem dksX0_faces_7 : cX0_faces.data.toList.drop 162 = dktX0_faces_7 := dk_seg dksX0_faces_6 24 rfl rfl
theorem dX0_faces_0 : decode cX0_faces 0 = .ok (.iload_n 1, 1) := dk_27 (dk_at dksX0_faces_0 0 rfl rfl)
theorem dX0_faces_1 : decode cX0_faces 1 = .ok (.iconst 0, 1) := dk_3 (dk_at dksX0_faces_0 1 rfl rfl)
theorem dX0_faces_2 : decode cX0_faces 2 = .ok (.iconst 1, 1) := dk_4 (dk_at dksX0_faces_0 2 rfl rfl)
theorem dX0_faces_3 : decode cX0_faces 3 = .ok (.invokestatic 78, 3) := dk_184 0 78 (dk_at dksX0_faces_0 3 rfl rfl)
theorem dX0_faces_6 : decode cX0_faces 6 = .ok (.ifCond .ne 5, 3) := dk_154 0 5 (dk_at dksX0_faces_0 6 rfl rfl)
theorem dX0_faces_9 : decode cX0_faces 9 = .ok (.iconst (-1), 1) := dk_2 (dk_at dksX0_faces_0 9 rfl rfl)
theorem dX0_faces_10 : decode cX0_faces 10 = .ok (.ireturn, 1) := dk_172 (dk_at dksX0_faces_0 10 rfl rfl)
theorem dX0_faces_11 : decode cX0_faces 11 = .ok (.iconst 0, 1) := dk_3 (dk_at dksX0_faces_0 11 rfl rfl)
theorem dX0_faces_12 : decode cX0_faces 12 = .ok (.istore_n 2, 1) := dk_61 (dk_at dksX0_faces_0 12 rfl rfl)
theorem dX0_faces_13 : decode cX0_faces 13 = .ok (.iconst 0, 1) := dk_3 (dk_at dksX0_faces_0 13 rfl rfl)
theorem dX0_faces_14 : decode cX0_faces 14 = .ok (.istore_n 3, 1) := dk_62 (dk_at dksX0_faces_0 14 rfl rfl)
theorem dX0_faces_15 : decode cX0_faces 15 = .ok (.iload_n 3, 1) := dk_29 (dk_at dksX0_faces_0 15 rfl rfl)
theorem dX0_faces_16 : decode cX0_faces 16 = .ok (.bipush 6, 2) := dk_16 6 (dk_at dksX0_faces_0 16 rfl rfl)
theorem dX0_faces_18 : decode cX0_faces 18 = .ok (.if_icmp .ge 16, 3) := dk_162 0 16 (dk_at dksX0_faces_0 18 rfl rfl)
theorem dX0_faces_21 : decode cX0_faces 21 = .ok (.aload_n 0, 1) := dk_42 (dk_at dksX0_faces_0 21 rfl rfl)
theorem dX0_faces_22 : decode cX0_faces 22 = .ok (.getfield 59, 3) := dk_180 0 59 (dk_at dksX0_faces_1 0 rfl rfl)
theorem dX0_faces_25 : decode cX0_faces 25 = .ok (.iload_n 3, 1) := dk_29 (dk_at dksX0_faces_1 3 rfl rfl)
theorem dX0_faces_26 : decode cX0_faces 26 = .ok (.iconst 0, 1) := dk_3 (dk_at dksX0_faces_1 4 rfl rfl)
theorem dX0_faces_27 : decode cX0_faces 27 = .ok (.iastore, 1) := dk_79 (dk_at dksX0_faces_1 5 rfl rfl)
theorem dX0_faces_28 : decode cX0_faces 28 = .ok (.iinc 3 1, 3) := dk_132 3 1 (dk_at dksX0_faces_1 6 rfl rfl)
theorem dX0_faces_31 : decode cX0_faces 31 = .ok (.goto (-16), 3) := dk_167 255 240 (dk_at dksX0_faces_1 9 rfl rfl)
theorem dX0_faces_34 : decode cX0_faces 34 = .ok (.iconst 0, 1) := dk_3 (dk_at dksX0_faces_1 12 rfl rfl)
theorem dX0_faces_35 : decode cX0_faces 35 = .ok (.istore_n 3, 1) := dk_62 (dk_at dksX0_faces_1 13 rfl rfl)
theorem dX0_faces_36 : decode cX0_faces 36 = .ok (.iload_n 3, 1) := dk_29 (dk_at dksX0_faces_1 14 rfl rfl)
theorem dX0_faces_37 : decode cX0_faces 37 = .ok (.sipush 4096, 3) := dk_17 16 0 (dk_at dksX0_faces_1 15 rfl rfl)
theorem dX0_faces_40 : decode cX0_faces 40 = .ok (.if_icmp .ge 78, 3) := dk_162 0 78 (dk_at dksX0_faces_1 18 rfl rfl)
theorem dX0_faces_43 : decode cX0_faces 43 = .ok (.aload_n 0, 1) := dk_42 (dk_at dksX0_faces_1 21 rfl rfl)
theorem dX0_faces_44 : decode cX0_faces 44 = .ok (.iload_n 3, 1) := dk_29 (dk_at dksX0_faces_1 22 rfl rfl)
theorem dX0_faces_45 : decode cX0_faces 45 = .ok (.invokevirtual 350, 3) := dk_182 1 94 (dk_at dksX0_faces_2 0 rfl rfl)
theorem dX0_faces_48 : decode cX0_faces 48 = .ok (.ifCond .ne 6, 3) := dk_154 0 6 (dk_at dksX0_faces_2 3 rfl rfl)
theorem dX0_faces_51 : decode cX0_faces 51 = .ok (.goto 61, 3) := dk_167 0 61 (dk_at dksX0_faces_2 6 rfl rfl)
theorem dX0_faces_54 : decode cX0_faces 54 = .ok (.iconst 1, 1) := dk_4 (dk_at dksX0_faces_2 9 rfl rfl)
theorem dX0_faces_55 : decode cX0_faces 55 = .ok (.istore 4, 2) := dk_54 4 (dk_at dksX0_faces_2 10 rfl rfl)
theorem dX0_faces_57 : decode cX0_faces 57 = .ok (.iconst 0, 1) := dk_3 (dk_at dksX0_faces_2 12 rfl rfl)
theorem dX0_faces_58 : decode cX0_faces 58 = .ok (.istore 5, 2) := dk_54 5 (dk_at dksX0_faces_2 13 rfl rfl)
theorem dX0_faces_60 : decode cX0_faces 60 = .ok (.iload 5, 2) := dk_21 5 (dk_at dksX0_faces_2 15 rfl rfl)
theorem dX0_faces_62 : decode cX0_faces 62 = .ok (.bipush 6, 2) := dk_16 6 (dk_at dksX0_faces_2 17 rfl rfl)
theorem dX0_faces_64 : decode cX0_faces 64 = .ok (.if_icmp .ge 43, 3) := dk_162 0 43 (dk_at dksX0_faces_2 19 rfl rfl)
theorem dX0_faces_67 : decode cX0_faces 67 = .ok (.iload 4, 2) := dk_21 4 (dk_at dksX0_faces_2 22 rfl rfl)
theorem dX0_faces_69 : decode cX0_faces 69 = .ok (.iload_n 3, 1) := dk_29 (dk_at dksX0_faces_3 0 rfl rfl)
theorem dX0_faces_70 : decode cX0_faces 70 = .ok (.iload 5, 2) := dk_21 5 (dk_at dksX0_faces_3 1 rfl rfl)
theorem dX0_faces_72 : decode cX0_faces 72 = .ok (.invokestatic 347, 3) := dk_184 1 91 (dk_at dksX0_faces_3 3 rfl rfl)
theorem dX0_faces_75 : decode cX0_faces 75 = .ok (.invokestatic 353, 3) := dk_184 1 97 (dk_at dksX0_faces_3 6 rfl rfl)
theorem dX0_faces_78 : decode cX0_faces 78 = .ok (.imul, 1) := dk_104 (dk_at dksX0_faces_3 9 rfl rfl)
theorem dX0_faces_79 : decode cX0_faces 79 = .ok (.istore 4, 2) := dk_54 4 (dk_at dksX0_faces_3 10 rfl rfl)
theorem dX0_faces_81 : decode cX0_faces 81 = .ok (.aload_n 0, 1) := dk_42 (dk_at dksX0_faces_3 12 rfl rfl)
theorem dX0_faces_82 : decode cX0_faces 82 = .ok (.getfield 59, 3) := dk_180 0 59 (dk_at dksX0_faces_3 13 rfl rfl)
theorem dX0_faces_85 : decode cX0_faces 85 = .ok (.iload 5, 2) := dk_21 5 (dk_at dksX0_faces_3 16 rfl rfl)
theorem dX0_faces_87 : decode cX0_faces 87 = .ok (.dup2, 1) := dk_92 (dk_at dksX0_faces_3 18 rfl rfl)
theorem dX0_faces_88 : decode cX0_faces 88 = .ok (.iaload, 1) := dk_46 (dk_at dksX0_faces_3 19 rfl rfl)
theorem dX0_faces_89 : decode cX0_faces 89 = .ok (.iconst 1, 1) := dk_4 (dk_at dksX0_faces_3 20 rfl rfl)
theorem dX0_faces_90 : decode cX0_faces 90 = .ok (.iload_n 3, 1) := dk_29 (dk_at dksX0_faces_3 21 rfl rfl)
theorem dX0_faces_91 : decode cX0_faces 91 = .ok (.iload 5, 2) := dk_21 5 (dk_at dksX0_faces_3 22 rfl rfl)
theorem dX0_faces_93 : decode cX0_faces 93 = .ok (.invokestatic 347, 3) := dk_184 1 91 (dk_at dksX0_faces_4 0 rfl rfl)
theorem dX0_faces_96 : decode cX0_faces 96 = .ok (.iconst 1, 1) := dk_4 (dk_at dksX0_faces_4 3 rfl rfl)
theorem dX0_faces_97 : decode cX0_faces 97 = .ok (.iadd, 1) := dk_96 (dk_at dksX0_faces_4 4 rfl rfl)
theorem dX0_faces_98 : decode cX0_faces 98 = .ok (.ishl, 1) := dk_120 (dk_at dksX0_faces_4 5 rfl rfl)
theorem dX0_faces_99 : decode cX0_faces 99 = .ok (.ior, 1) := dk_128 (dk_at dksX0_faces_4 6 rfl rfl)
theorem dX0_faces_100 : decode cX0_faces 100 = .ok (.iastore, 1) := dk_79 (dk_at dksX0_faces_4 7 rfl rfl)
theorem dX0_faces_101 : decode cX0_faces 101 = .ok (.iinc 5 1, 3) := dk_132 5 1 (dk_at dksX0_faces_4 8 rfl rfl)
theorem dX0_faces_104 : decode cX0_faces 104 = .ok (.goto (-44), 3) := dk_167 255 212 (dk_at dksX0_faces_4 11 rfl rfl)
theorem dX0_faces_107 : decode cX0_faces 107 = .ok (.iload_n 2, 1) := dk_28 (dk_at dksX0_faces_4 14 rfl rfl)
theorem dX0_faces_108 : decode cX0_faces 108 = .ok (.iload 4, 2) := dk_21 4 (dk_at dksX0_faces_4 15 rfl rfl)
theorem dX0_faces_110 : decode cX0_faces 110 = .ok (.iadd, 1) := dk_96 (dk_at dksX0_faces_4 17 rfl rfl)
theorem dX0_faces_111 : decode cX0_faces 111 = .ok (.istore_n 2, 1) := dk_61 (dk_at dksX0_faces_4 18 rfl rfl)
theorem dX0_faces_112 : decode cX0_faces 112 = .ok (.iinc 3 1, 3) := dk_132 3 1 (dk_at dksX0_faces_4 19 rfl rfl)
theorem dX0_faces_115 : decode cX0_faces 115 = .ok (.goto (-79), 3) := dk_167 255 177 (dk_at dksX0_faces_5 0 rfl rfl)
theorem dX0_faces_118 : decode cX0_faces 118 = .ok (.iconst 0, 1) := dk_3 (dk_at dksX0_faces_5 3 rfl rfl)
theorem dX0_faces_119 : decode cX0_faces 119 = .ok (.istore_n 3, 1) := dk_62 (dk_at dksX0_faces_5 4 rfl rfl)
theorem dX0_faces_120 : decode cX0_faces 120 = .ok (.iconst 0, 1) := dk_3 (dk_at dksX0_faces_5 5 rfl rfl)
theorem dX0_faces_121 : decode cX0_faces 121 = .ok (.istore 4, 2) := dk_54 4 (dk_at dksX0_faces_5 6 rfl rfl)
theorem dX0_faces_123 : decode cX0_faces 123 = .ok (.iload 4, 2) := dk_21 4 (dk_at dksX0_faces_5 8 rfl rfl)
theorem dX0_faces_125 : decode cX0_faces 125 = .ok (.bipush 6, 2) := dk_16 6 (dk_at dksX0_faces_5 10 rfl rfl)
theorem dX0_faces_127 : decode cX0_faces 127 = .ok (.if_icmp .ge 34, 3) := dk_162 0 34 (dk_at dksX0_faces_5 12 rfl rfl)
theorem dX0_faces_130 : decode cX0_faces 130 = .ok (.iload_n 3, 1) := dk_29 (dk_at dksX0_faces_5 15 rfl rfl)
theorem dX0_faces_131 : decode cX0_faces 131 = .ok (.aload_n 0, 1) := dk_42 (dk_at dksX0_faces_5 16 rfl rfl)
theorem dX0_faces_132 : decode cX0_faces 132 = .ok (.getfield 59, 3) := dk_180 0 59 (dk_at dksX0_faces_5 17 rfl rfl)
theorem dX0_faces_135 : decode cX0_faces 135 = .ok (.iload 4, 2) := dk_21 4 (dk_at dksX0_faces_5 20 rfl rfl)
theorem dX0_faces_137 : decode cX0_faces 137 = .ok (.iaload, 1) := dk_46 (dk_at dksX0_faces_5 22 rfl rfl)
theorem dX0_faces_138 : decode cX0_faces 138 = .ok (.invokestatic 303, 3) := dk_184 1 47 (dk_at dksX0_faces_6 0 rfl rfl)
theorem dX0_faces_141 : decode cX0_faces 141 = .ok (.iconst 1, 1) := dk_4 (dk_at dksX0_faces_6 3 rfl rfl)
theorem dX0_faces_142 : decode cX0_faces 142 = .ok (.if_icmp .ne 10, 3) := dk_160 0 10 (dk_at dksX0_faces_6 4 rfl rfl)
theorem dX0_faces_145 : decode cX0_faces 145 = .ok (.iconst 1, 1) := dk_4 (dk_at dksX0_faces_6 7 rfl rfl)
theorem dX0_faces_146 : decode cX0_faces 146 = .ok (.iload 4, 2) := dk_21 4 (dk_at dksX0_faces_6 8 rfl rfl)
theorem dX0_faces_148 : decode cX0_faces 148 = .ok (.ishl, 1) := dk_120 (dk_at dksX0_faces_6 10 rfl rfl)
theorem dX0_faces_149 : decode cX0_faces 149 = .ok (.goto 4, 3) := dk_167 0 4 (dk_at dksX0_faces_6 11 rfl rfl)
theorem dX0_faces_152 : decode cX0_faces 152 = .ok (.iconst 0, 1) := dk_3 (dk_at dksX0_faces_6 14 rfl rfl)
theorem dX0_faces_153 : decode cX0_faces 153 = .ok (.ior, 1) := dk_128 (dk_at dksX0_faces_6 15 rfl rfl)
theorem dX0_faces_154 : decode cX0_faces 154 = .ok (.istore_n 3, 1) := dk_62 (dk_at dksX0_faces_6 16 rfl rfl)
theorem dX0_faces_155 : decode cX0_faces 155 = .ok (.iinc 4 1, 3) := dk_132 4 1 (dk_at dksX0_faces_6 17 rfl rfl)
theorem dX0_faces_158 : decode cX0_faces 158 = .ok (.goto (-35), 3) := dk_167 255 221 (dk_at dksX0_faces_6 20 rfl rfl)
theorem dX0_faces_161 : decode cX0_faces 161 = .ok (.iload_n 1, 1) := dk_27 (dk_at dksX0_faces_6 23 rfl rfl)
theorem dX0_faces_162 : decode cX0_faces 162 = .ok (.ifCond .ne 11, 3) := dk_154 0 11 (dk_at dksX0_faces_7 0 rfl rfl)
theorem dX0_faces_165 : decode cX0_faces 165 = .ok (.iload_n 2, 1) := dk_28 (dk_at dksX0_faces_7 3 rfl rfl)
theorem dX0_faces_166 : decode cX0_faces 166 = .ok (.ldc_w 314, 3) := dk_19 1 58 (dk_at dksX0_faces_7 4 rfl rfl)
theorem dX0_faces_169 : decode cX0_faces 169 = .ok (.irem, 1) := dk_112 (dk_at dksX0_faces_7 7 rfl rfl)
theorem dX0_faces_170 : decode cX0_faces 170 = .ok (.goto 4, 3) := dk_167 0 4 (dk_at dksX0_faces_7 8 rfl rfl)
theorem dX0_faces_173 : decode cX0_faces 173 = .ok (.iload_n 3, 1) := dk_29 (dk_at dksX0_faces_7 11 rfl rfl)
theorem dX0_faces_174 : decode cX0_faces 174 = .ok (.ireturn, 1) := dk_172 (dk_at dksX0_faces_7 12 rfl rfl)
abbrev cX0_allows : ByteArray := prog_1_method_55_code
def yX0_allows : MethodName := ⟨RX0, "allows", "(I)Z"⟩
def dkwX0_allows_4 : List UInt8 := [167, 255, 165, 4, 172]
abbrev dktX0_allows_4 : List UInt8 := dkwX0_allows_4 ++ []
def dkwX0_allows_3 : List UInt8 := [42, 180, 0, 20, 180, 1, 88, 180, 1, 52, 28, 50, 4, 46, 159, 0, 5, 3, 172, 132, 2, 1]
abbrev dktX0_allows_3 : List UInt8 := dkwX0_allows_3 ++ dktX0_allows_4
def dkwX0_allows_2 : List UInt8 := [126, 4, 160, 0, 12, 27, 21, 4, 184, 1, 91, 167, 0, 4, 3, 96, 62, 132, 4, 1, 167, 255, 210, 29]
abbrev dktX0_allows_2 : List UInt8 := dkwX0_allows_2 ++ dktX0_allows_3
def dkwX0_allows_1 : List UInt8 := [16, 6, 162, 0, 45, 29, 42, 180, 0, 20, 180, 1, 88, 180, 1, 52, 28, 50, 3, 46, 21, 4, 122, 4]
abbrev dktX0_allows_1 : List UInt8 := dkwX0_allows_1 ++ dktX0_allows_2
def dkwX0_allows_0 : List UInt8 := [3, 61, 28, 42, 180, 0, 20, 180, 1, 88, 180, 1, 46, 162, 0, 83, 3, 62, 3, 54, 4, 21, 4]
abbrev dktX0_allows_0 : List UInt8 := dkwX0_allows_0 ++ dktX0_allows_1
theorem dksX0_allows_0 : cX0_allows.data.toList.drop 0 = dktX0_allows_0 := by decide +kernel
theorem dksX0_allows_1 : cX0_allows.data.toList.drop 23 = dktX0_allows_1 := dk_seg dksX0_allows_0 23 rfl rfl
theorem dksX0_allows_2 : cX0_allows.data.toList.drop 47 = dktX0_allows_2 := dk_seg dksX0_allows_1 24 rfl rfl
theorem dksX0_allows_3 : cX0_allows.data.toList.drop 71 = dktX0_allows_3 := dk_seg dksX0_allows_2 24 rfl rfl
theorem dksX0_allows_4 : cX0_allows.data.toList.drop 93 = dktX0_allows_4 := dk_seg dksX0_allows_3 22 rfl rfl
theorem dX0_allows_0 : decode cX0_allows 0 = .ok (.iconst 0, 1) := dk_3 (dk_at dksX0_allows_0 0 rfl rfl)
theorem dX0_allows_1 : decode cX0_allows 1 = .ok (.istore_n 2, 1) := dk_61 (dk_at dksX0_allows_0 1 rfl rfl)
theorem dX0_allows_2 : decode cX0_allows 2 = .ok (.iload_n 2, 1) := dk_28 (dk_at dksX0_allows_0 2 rfl rfl)
theorem dX0_allows_3 : decode cX0_allows 3 = .ok (.aload_n 0, 1) := dk_42 (dk_at dksX0_allows_0 3 rfl rfl)
theorem dX0_allows_4 : decode cX0_allows 4 = .ok (.getfield 20, 3) := dk_180 0 20 (dk_at dksX0_allows_0 4 rfl rfl)
theorem dX0_allows_7 : decode cX0_allows 7 = .ok (.getfield 344, 3) := dk_180 1 88 (dk_at dksX0_allows_0 7 rfl rfl)
theorem dX0_allows_10 : decode cX0_allows 10 = .ok (.getfield 302, 3) := dk_180 1 46 (dk_at dksX0_allows_0 10 rfl rfl)
theorem dX0_allows_13 : decode cX0_allows 13 = .ok (.if_icmp .ge 83, 3) := dk_162 0 83 (dk_at dksX0_allows_0 13 rfl rfl)
theorem dX0_allows_16 : decode cX0_allows 16 = .ok (.iconst 0, 1) := dk_3 (dk_at dksX0_allows_0 16 rfl rfl)
theorem dX0_allows_17 : decode cX0_allows 17 = .ok (.istore_n 3, 1) := dk_62 (dk_at dksX0_allows_0 17 rfl rfl)
theorem dX0_allows_18 : decode cX0_allows 18 = .ok (.iconst 0, 1) := dk_3 (dk_at dksX0_allows_0 18 rfl rfl)
theorem dX0_allows_19 : decode cX0_allows 19 = .ok (.istore 4, 2) := dk_54 4 (dk_at dksX0_allows_0 19 rfl rfl)
theorem dX0_allows_21 : decode cX0_allows 21 = .ok (.iload 4, 2) := dk_21 4 (dk_at dksX0_allows_0 21 rfl rfl)
theorem dX0_allows_23 : decode cX0_allows 23 = .ok (.bipush 6, 2) := dk_16 6 (dk_at dksX0_allows_1 0 rfl rfl)
theorem dX0_allows_25 : decode cX0_allows 25 = .ok (.if_icmp .ge 45, 3) := dk_162 0 45 (dk_at dksX0_allows_1 2 rfl rfl)
theorem dX0_allows_28 : decode cX0_allows 28 = .ok (.iload_n 3, 1) := dk_29 (dk_at dksX0_allows_1 5 rfl rfl)
theorem dX0_allows_29 : decode cX0_allows 29 = .ok (.aload_n 0, 1) := dk_42 (dk_at dksX0_allows_1 6 rfl rfl)
theorem dX0_allows_30 : decode cX0_allows 30 = .ok (.getfield 20, 3) := dk_180 0 20 (dk_at dksX0_allows_1 7 rfl rfl)
theorem dX0_allows_33 : decode cX0_allows 33 = .ok (.getfield 344, 3) := dk_180 1 88 (dk_at dksX0_allows_1 10 rfl rfl)
theorem dX0_allows_36 : decode cX0_allows 36 = .ok (.getfield 308, 3) := dk_180 1 52 (dk_at dksX0_allows_1 13 rfl rfl)
theorem dX0_allows_39 : decode cX0_allows 39 = .ok (.iload_n 2, 1) := dk_28 (dk_at dksX0_allows_1 16 rfl rfl)
theorem dX0_allows_40 : decode cX0_allows 40 = .ok (.aaload, 1) := dk_50 (dk_at dksX0_allows_1 17 rfl rfl)
theorem dX0_allows_41 : decode cX0_allows 41 = .ok (.iconst 0, 1) := dk_3 (dk_at dksX0_allows_1 18 rfl rfl)
theorem dX0_allows_42 : decode cX0_allows 42 = .ok (.iaload, 1) := dk_46 (dk_at dksX0_allows_1 19 rfl rfl)
theorem dX0_allows_43 : decode cX0_allows 43 = .ok (.iload 4, 2) := dk_21 4 (dk_at dksX0_allows_1 20 rfl rfl)
theorem dX0_allows_45 : decode cX0_allows 45 = .ok (.ishr, 1) := dk_122 (dk_at dksX0_allows_1 22 rfl rfl)
theorem dX0_allows_46 : decode cX0_allows 46 = .ok (.iconst 1, 1) := dk_4 (dk_at dksX0_allows_1 23 rfl rfl)
theorem dX0_allows_47 : decode cX0_allows 47 = .ok (.iand, 1) := dk_126 (dk_at dksX0_allows_2 0 rfl rfl)
theorem dX0_allows_48 : decode cX0_allows 48 = .ok (.iconst 1, 1) := dk_4 (dk_at dksX0_allows_2 1 rfl rfl)
theorem dX0_allows_49 : decode cX0_allows 49 = .ok (.if_icmp .ne 12, 3) := dk_160 0 12 (dk_at dksX0_allows_2 2 rfl rfl)
theorem dX0_allows_52 : decode cX0_allows 52 = .ok (.iload_n 1, 1) := dk_27 (dk_at dksX0_allows_2 5 rfl rfl)
theorem dX0_allows_53 : decode cX0_allows 53 = .ok (.iload 4, 2) := dk_21 4 (dk_at dksX0_allows_2 6 rfl rfl)
theorem dX0_allows_55 : decode cX0_allows 55 = .ok (.invokestatic 347, 3) := dk_184 1 91 (dk_at dksX0_allows_2 8 rfl rfl)
theorem dX0_allows_58 : decode cX0_allows 58 = .ok (.goto 4, 3) := dk_167 0 4 (dk_at dksX0_allows_2 11 rfl rfl)
theorem dX0_allows_61 : decode cX0_allows 61 = .ok (.iconst 0, 1) := dk_3 (dk_at dksX0_allows_2 14 rfl rfl)
theorem dX0_allows_62 : decode cX0_allows 62 = .ok (.iadd, 1) := dk_96 (dk_at dksX0_allows_2 15 rfl rfl)
theorem dX0_allows_63 : decode cX0_allows 63 = .ok (.istore_n 3, 1) := dk_62 (dk_at dksX0_allows_2 16 rfl rfl)
theorem dX0_allows_64 : decode cX0_allows 64 = .ok (.iinc 4 1, 3) := dk_132 4 1 (dk_at dksX0_allows_2 17 rfl rfl)
theorem dX0_allows_67 : decode cX0_allows 67 = .ok (.goto (-46), 3) := dk_167 255 210 (dk_at dksX0_allows_2 20 rfl rfl)
theorem dX0_allows_70 : decode cX0_allows 70 = .ok (.iload_n 3, 1) := dk_29 (dk_at dksX0_allows_2 23 rfl rfl)
theorem dX0_allows_71 : decode cX0_allows 71 = .ok (.aload_n 0, 1) := dk_42 (dk_at dksX0_allows_3 0 rfl rfl)
theorem dX0_allows_72 : decode cX0_allows 72 = .ok (.getfield 20, 3) := dk_180 0 20 (dk_at dksX0_allows_3 1 rfl rfl)
theorem dX0_allows_75 : decode cX0_allows 75 = .ok (.getfield 344, 3) := dk_180 1 88 (dk_at dksX0_allows_3 4 rfl rfl)
theorem dX0_allows_78 : decode cX0_allows 78 = .ok (.getfield 308, 3) := dk_180 1 52 (dk_at dksX0_allows_3 7 rfl rfl)
theorem dX0_allows_81 : decode cX0_allows 81 = .ok (.iload_n 2, 1) := dk_28 (dk_at dksX0_allows_3 10 rfl rfl)
theorem dX0_allows_82 : decode cX0_allows 82 = .ok (.aaload, 1) := dk_50 (dk_at dksX0_allows_3 11 rfl rfl)
theorem dX0_allows_83 : decode cX0_allows 83 = .ok (.iconst 1, 1) := dk_4 (dk_at dksX0_allows_3 12 rfl rfl)
theorem dX0_allows_84 : decode cX0_allows 84 = .ok (.iaload, 1) := dk_46 (dk_at dksX0_allows_3 13 rfl rfl)
theorem dX0_allows_85 : decode cX0_allows 85 = .ok (.if_icmp .eq 5, 3) := dk_159 0 5 (dk_at dksX0_allows_3 14 rfl rfl)
theorem dX0_allows_88 : decode cX0_allows 88 = .ok (.iconst 0, 1) := dk_3 (dk_at dksX0_allows_3 17 rfl rfl)
theorem dX0_allows_89 : decode cX0_allows 89 = .ok (.ireturn, 1) := dk_172 (dk_at dksX0_allows_3 18 rfl rfl)
theorem dX0_allows_90 : decode cX0_allows 90 = .ok (.iinc 2 1, 3) := dk_132 2 1 (dk_at dksX0_allows_3 19 rfl rfl)
theorem dX0_allows_93 : decode cX0_allows 93 = .ok (.goto (-91), 3) := dk_167 255 165 (dk_at dksX0_allows_4 0 rfl rfl)
theorem dX0_allows_96 : decode cX0_allows 96 = .ok (.iconst 1, 1) := dk_4 (dk_at dksX0_allows_4 3 rfl rfl)
theorem dX0_allows_97 : decode cX0_allows 97 = .ok (.ireturn, 1) := dk_172 (dk_at dksX0_allows_4 4 rfl rfl)
abbrev cX0_change : ByteArray := prog_1_method_54_code
def yX0_change : MethodName := ⟨RX0, "change", "(II)I"⟩
def dkwX0_change_0 : List UInt8 := [26, 5, 27, 104, 122, 6, 126, 4, 100, 172]
abbrev dktX0_change_0 : List UInt8 := dkwX0_change_0 ++ []
theorem dksX0_change_0 : cX0_change.data.toList.drop 0 = dktX0_change_0 := by decide +kernel
theorem dX0_change_0 : decode cX0_change 0 = .ok (.iload_n 0, 1) := dk_26 (dk_at dksX0_change_0 0 rfl rfl)
theorem dX0_change_1 : decode cX0_change 1 = .ok (.iconst 2, 1) := dk_5 (dk_at dksX0_change_0 1 rfl rfl)
theorem dX0_change_2 : decode cX0_change 2 = .ok (.iload_n 1, 1) := dk_27 (dk_at dksX0_change_0 2 rfl rfl)
theorem dX0_change_3 : decode cX0_change 3 = .ok (.imul, 1) := dk_104 (dk_at dksX0_change_0 3 rfl rfl)
theorem dX0_change_4 : decode cX0_change 4 = .ok (.ishr, 1) := dk_122 (dk_at dksX0_change_0 4 rfl rfl)
theorem dX0_change_5 : decode cX0_change 5 = .ok (.iconst 3, 1) := dk_6 (dk_at dksX0_change_0 5 rfl rfl)
theorem dX0_change_6 : decode cX0_change 6 = .ok (.iand, 1) := dk_126 (dk_at dksX0_change_0 6 rfl rfl)
theorem dX0_change_7 : decode cX0_change 7 = .ok (.iconst 1, 1) := dk_4 (dk_at dksX0_change_0 7 rfl rfl)
theorem dX0_change_8 : decode cX0_change 8 = .ok (.isub, 1) := dk_100 (dk_at dksX0_change_0 8 rfl rfl)
theorem dX0_change_9 : decode cX0_change 9 = .ok (.ireturn, 1) := dk_172 (dk_at dksX0_change_0 9 rfl rfl)
abbrev cX0_kinds : ByteArray := prog_1_method_56_code
def yX0_kinds : MethodName := ⟨RX0, "kinds", "(I)I"⟩
def dkwX0_kinds_0 : List UInt8 := [26, 156, 0, 7, 6, 167, 0, 12, 26, 154, 0, 7, 5, 167, 0, 4, 4, 172]
abbrev dktX0_kinds_0 : List UInt8 := dkwX0_kinds_0 ++ []
theorem dksX0_kinds_0 : cX0_kinds.data.toList.drop 0 = dktX0_kinds_0 := by decide +kernel
theorem dX0_kinds_0 : decode cX0_kinds 0 = .ok (.iload_n 0, 1) := dk_26 (dk_at dksX0_kinds_0 0 rfl rfl)
theorem dX0_kinds_1 : decode cX0_kinds 1 = .ok (.ifCond .ge 7, 3) := dk_156 0 7 (dk_at dksX0_kinds_0 1 rfl rfl)
theorem dX0_kinds_4 : decode cX0_kinds 4 = .ok (.iconst 3, 1) := dk_6 (dk_at dksX0_kinds_0 4 rfl rfl)
theorem dX0_kinds_5 : decode cX0_kinds 5 = .ok (.goto 12, 3) := dk_167 0 12 (dk_at dksX0_kinds_0 5 rfl rfl)
theorem dX0_kinds_8 : decode cX0_kinds 8 = .ok (.iload_n 0, 1) := dk_26 (dk_at dksX0_kinds_0 8 rfl rfl)
theorem dX0_kinds_9 : decode cX0_kinds 9 = .ok (.ifCond .ne 7, 3) := dk_154 0 7 (dk_at dksX0_kinds_0 9 rfl rfl)
theorem dX0_kinds_12 : decode cX0_kinds 12 = .ok (.iconst 2, 1) := dk_5 (dk_at dksX0_kinds_0 12 rfl rfl)
theorem dX0_kinds_13 : decode cX0_kinds 13 = .ok (.goto 4, 3) := dk_167 0 4 (dk_at dksX0_kinds_0 13 rfl rfl)
theorem dX0_kinds_16 : decode cX0_kinds 16 = .ok (.iconst 1, 1) := dk_4 (dk_at dksX0_kinds_0 16 rfl rfl)
theorem dX0_kinds_17 : decode cX0_kinds 17 = .ok (.ireturn, 1) := dk_172 (dk_at dksX0_kinds_0 17 rfl rfl)
abbrev cX0_joy : ByteArray := prog_1_method_58_code
def yX0_joy : MethodName := ⟨RX0, "joy", "(I)I"⟩
def dkwX0_joy_5 : List UInt8 := [29, 172]
abbrev dktX0_joy_5 : List UInt8 := dkwX0_joy_5 ++ []
def dkwX0_joy_4 : List UInt8 := [184, 0, 68, 61, 132, 6, 1, 167, 255, 207, 132, 4, 1, 167, 255, 182, 27, 154, 0, 7, 28, 167, 0, 4]
abbrev dktX0_joy_4 : List UInt8 := dkwX0_joy_4 ++ dktX0_joy_5
def dkwX0_joy_3 : List UInt8 := [180, 0, 177, 96, 54, 5, 21, 5, 28, 164, 0, 8, 21, 4, 167, 0, 4, 29, 62, 28, 21, 5]
abbrev dktX0_joy_3 : List UInt8 := dkwX0_joy_3 ++ dktX0_joy_4
def dkwX0_joy_2 : List UInt8 := [21, 4, 54, 6, 21, 6, 42, 180, 0, 20, 180, 0, 151, 162, 0, 43, 21, 5, 42, 21, 6, 182, 0, 161]
abbrev dktX0_joy_2 : List UInt8 := dkwX0_joy_2 ++ dktX0_joy_3
def dkwX0_joy_1 : List UInt8 := [19, 1, 100, 61, 3, 62, 3, 54, 4, 21, 4, 42, 180, 0, 20, 180, 0, 151, 162, 0, 68, 3, 54, 5]
abbrev dktX0_joy_1 : List UInt8 := dkwX0_joy_1 ++ dktX0_joy_2
def dkwX0_joy_0 : List UInt8 := [27, 3, 4, 184, 0, 78, 153, 0, 13, 42, 180, 0, 20, 180, 0, 151, 154, 0, 6, 16, 156, 172]
abbrev dktX0_joy_0 : List UInt8 := dkwX0_joy_0 ++ dktX0_joy_1
theorem dksX0_joy_0 : cX0_joy.data.toList.drop 0 = dktX0_joy_0 := by decide +kernel
theorem dksX0_joy_1 : cX0_joy.data.toList.drop 22 = dktX0_joy_1 := dk_seg dksX0_joy_0 22 rfl rfl
theorem dksX0_joy_2 : cX0_joy.data.toList.drop 46 = dktX0_joy_2 := dk_seg dksX0_joy_1 24 rfl rfl
theorem dksX0_joy_3 : cX0_joy.data.toList.drop 70 = dktX0_joy_3 := dk_seg dksX0_joy_2 24 rfl rfl
theorem dksX0_joy_4 : cX0_joy.data.toList.drop 92 = dktX0_joy_4 := dk_seg dksX0_joy_3 22 rfl rfl
theorem dksX0_joy_5 : cX0_joy.data.toList.drop 116 = dktX0_joy_5 := dk_seg dksX0_joy_4 24 rfl rfl
theorem dX0_joy_0 : decode cX0_joy 0 = .ok (.iload_n 1, 1) := dk_27 (dk_at dksX0_joy_0 0 rfl rfl)
theorem dX0_joy_1 : decode cX0_joy 1 = .ok (.iconst 0, 1) := dk_3 (dk_at dksX0_joy_0 1 rfl rfl)
theorem dX0_joy_2 : decode cX0_joy 2 = .ok (.iconst 1, 1) := dk_4 (dk_at dksX0_joy_0 2 rfl rfl)
theorem dX0_joy_3 : decode cX0_joy 3 = .ok (.invokestatic 78, 3) := dk_184 0 78 (dk_at dksX0_joy_0 3 rfl rfl)
theorem dX0_joy_6 : decode cX0_joy 6 = .ok (.ifCond .eq 13, 3) := dk_153 0 13 (dk_at dksX0_joy_0 6 rfl rfl)
theorem dX0_joy_9 : decode cX0_joy 9 = .ok (.aload_n 0, 1) := dk_42 (dk_at dksX0_joy_0 9 rfl rfl)
theorem dX0_joy_10 : decode cX0_joy 10 = .ok (.getfield 20, 3) := dk_180 0 20 (dk_at dksX0_joy_0 10 rfl rfl)
theorem dX0_joy_13 : decode cX0_joy 13 = .ok (.getfield 151, 3) := dk_180 0 151 (dk_at dksX0_joy_0 13 rfl rfl)
theorem dX0_joy_16 : decode cX0_joy 16 = .ok (.ifCond .ne 6, 3) := dk_154 0 6 (dk_at dksX0_joy_0 16 rfl rfl)
theorem dX0_joy_19 : decode cX0_joy 19 = .ok (.bipush (-100), 2) := dk_16 156 (dk_at dksX0_joy_0 19 rfl rfl)
theorem dX0_joy_21 : decode cX0_joy 21 = .ok (.ireturn, 1) := dk_172 (dk_at dksX0_joy_0 21 rfl rfl)
theorem dX0_joy_22 : decode cX0_joy 22 = .ok (.ldc_w 356, 3) := dk_19 1 100 (dk_at dksX0_joy_1 0 rfl rfl)
theorem dX0_joy_25 : decode cX0_joy 25 = .ok (.istore_n 2, 1) := dk_61 (dk_at dksX0_joy_1 3 rfl rfl)
theorem dX0_joy_26 : decode cX0_joy 26 = .ok (.iconst 0, 1) := dk_3 (dk_at dksX0_joy_1 4 rfl rfl)
theorem dX0_joy_27 : decode cX0_joy 27 = .ok (.istore_n 3, 1) := dk_62 (dk_at dksX0_joy_1 5 rfl rfl)
theorem dX0_joy_28 : decode cX0_joy 28 = .ok (.iconst 0, 1) := dk_3 (dk_at dksX0_joy_1 6 rfl rfl)
theorem dX0_joy_29 : decode cX0_joy 29 = .ok (.istore 4, 2) := dk_54 4 (dk_at dksX0_joy_1 7 rfl rfl)
theorem dX0_joy_31 : decode cX0_joy 31 = .ok (.iload 4, 2) := dk_21 4 (dk_at dksX0_joy_1 9 rfl rfl)
theorem dX0_joy_33 : decode cX0_joy 33 = .ok (.aload_n 0, 1) := dk_42 (dk_at dksX0_joy_1 11 rfl rfl)
theorem dX0_joy_34 : decode cX0_joy 34 = .ok (.getfield 20, 3) := dk_180 0 20 (dk_at dksX0_joy_1 12 rfl rfl)
theorem dX0_joy_37 : decode cX0_joy 37 = .ok (.getfield 151, 3) := dk_180 0 151 (dk_at dksX0_joy_1 15 rfl rfl)
theorem dX0_joy_40 : decode cX0_joy 40 = .ok (.if_icmp .ge 68, 3) := dk_162 0 68 (dk_at dksX0_joy_1 18 rfl rfl)
theorem dX0_joy_43 : decode cX0_joy 43 = .ok (.iconst 0, 1) := dk_3 (dk_at dksX0_joy_1 21 rfl rfl)
theorem dX0_joy_44 : decode cX0_joy 44 = .ok (.istore 5, 2) := dk_54 5 (dk_at dksX0_joy_1 22 rfl rfl)
theorem dX0_joy_46 : decode cX0_joy 46 = .ok (.iload 4, 2) := dk_21 4 (dk_at dksX0_joy_2 0 rfl rfl)
theorem dX0_joy_48 : decode cX0_joy 48 = .ok (.istore 6, 2) := dk_54 6 (dk_at dksX0_joy_2 2 rfl rfl)
theorem dX0_joy_50 : decode cX0_joy 50 = .ok (.iload 6, 2) := dk_21 6 (dk_at dksX0_joy_2 4 rfl rfl)
theorem dX0_joy_52 : decode cX0_joy 52 = .ok (.aload_n 0, 1) := dk_42 (dk_at dksX0_joy_2 6 rfl rfl)
theorem dX0_joy_53 : decode cX0_joy 53 = .ok (.getfield 20, 3) := dk_180 0 20 (dk_at dksX0_joy_2 7 rfl rfl)
theorem dX0_joy_56 : decode cX0_joy 56 = .ok (.getfield 151, 3) := dk_180 0 151 (dk_at dksX0_joy_2 10 rfl rfl)
theorem dX0_joy_59 : decode cX0_joy 59 = .ok (.if_icmp .ge 43, 3) := dk_162 0 43 (dk_at dksX0_joy_2 13 rfl rfl)
theorem dX0_joy_62 : decode cX0_joy 62 = .ok (.iload 5, 2) := dk_21 5 (dk_at dksX0_joy_2 16 rfl rfl)
theorem dX0_joy_64 : decode cX0_joy 64 = .ok (.aload_n 0, 1) := dk_42 (dk_at dksX0_joy_2 18 rfl rfl)
theorem dX0_joy_65 : decode cX0_joy 65 = .ok (.iload 6, 2) := dk_21 6 (dk_at dksX0_joy_2 19 rfl rfl)
theorem dX0_joy_67 : decode cX0_joy 67 = .ok (.invokevirtual 161, 3) := dk_182 0 161 (dk_at dksX0_joy_2 21 rfl rfl)
theorem dX0_joy_70 : decode cX0_joy 70 = .ok (.getfield 177, 3) := dk_180 0 177 (dk_at dksX0_joy_3 0 rfl rfl)
theorem dX0_joy_73 : decode cX0_joy 73 = .ok (.iadd, 1) := dk_96 (dk_at dksX0_joy_3 3 rfl rfl)
theorem dX0_joy_74 : decode cX0_joy 74 = .ok (.istore 5, 2) := dk_54 5 (dk_at dksX0_joy_3 4 rfl rfl)
theorem dX0_joy_76 : decode cX0_joy 76 = .ok (.iload 5, 2) := dk_21 5 (dk_at dksX0_joy_3 6 rfl rfl)
theorem dX0_joy_78 : decode cX0_joy 78 = .ok (.iload_n 2, 1) := dk_28 (dk_at dksX0_joy_3 8 rfl rfl)
theorem dX0_joy_79 : decode cX0_joy 79 = .ok (.if_icmp .le 8, 3) := dk_164 0 8 (dk_at dksX0_joy_3 9 rfl rfl)
theorem dX0_joy_82 : decode cX0_joy 82 = .ok (.iload 4, 2) := dk_21 4 (dk_at dksX0_joy_3 12 rfl rfl)
theorem dX0_joy_84 : decode cX0_joy 84 = .ok (.goto 4, 3) := dk_167 0 4 (dk_at dksX0_joy_3 14 rfl rfl)
theorem dX0_joy_87 : decode cX0_joy 87 = .ok (.iload_n 3, 1) := dk_29 (dk_at dksX0_joy_3 17 rfl rfl)
theorem dX0_joy_88 : decode cX0_joy 88 = .ok (.istore_n 3, 1) := dk_62 (dk_at dksX0_joy_3 18 rfl rfl)
theorem dX0_joy_89 : decode cX0_joy 89 = .ok (.iload_n 2, 1) := dk_28 (dk_at dksX0_joy_3 19 rfl rfl)
theorem dX0_joy_90 : decode cX0_joy 90 = .ok (.iload 5, 2) := dk_21 5 (dk_at dksX0_joy_3 20 rfl rfl)
theorem dX0_joy_92 : decode cX0_joy 92 = .ok (.invokestatic 68, 3) := dk_184 0 68 (dk_at dksX0_joy_4 0 rfl rfl)
theorem dX0_joy_95 : decode cX0_joy 95 = .ok (.istore_n 2, 1) := dk_61 (dk_at dksX0_joy_4 3 rfl rfl)
theorem dX0_joy_96 : decode cX0_joy 96 = .ok (.iinc 6 1, 3) := dk_132 6 1 (dk_at dksX0_joy_4 4 rfl rfl)
theorem dX0_joy_99 : decode cX0_joy 99 = .ok (.goto (-49), 3) := dk_167 255 207 (dk_at dksX0_joy_4 7 rfl rfl)
theorem dX0_joy_102 : decode cX0_joy 102 = .ok (.iinc 4 1, 3) := dk_132 4 1 (dk_at dksX0_joy_4 10 rfl rfl)
theorem dX0_joy_105 : decode cX0_joy 105 = .ok (.goto (-74), 3) := dk_167 255 182 (dk_at dksX0_joy_4 13 rfl rfl)
theorem dX0_joy_108 : decode cX0_joy 108 = .ok (.iload_n 1, 1) := dk_27 (dk_at dksX0_joy_4 16 rfl rfl)
theorem dX0_joy_109 : decode cX0_joy 109 = .ok (.ifCond .ne 7, 3) := dk_154 0 7 (dk_at dksX0_joy_4 17 rfl rfl)
theorem dX0_joy_112 : decode cX0_joy 112 = .ok (.iload_n 2, 1) := dk_28 (dk_at dksX0_joy_4 20 rfl rfl)
theorem dX0_joy_113 : decode cX0_joy 113 = .ok (.goto 4, 3) := dk_167 0 4 (dk_at dksX0_joy_4 21 rfl rfl)
theorem dX0_joy_116 : decode cX0_joy 116 = .ok (.iload_n 3, 1) := dk_29 (dk_at dksX0_joy_5 0 rfl rfl)
theorem dX0_joy_117 : decode cX0_joy 117 = .ok (.ireturn, 1) := dk_172 (dk_at dksX0_joy_5 1 rfl rfl)
abbrev cX0_game : ByteArray := prog_1_method_59_code
def yX0_game : MethodName := ⟨RX0, "game", "(I)I"⟩
def dkwX0_game_5 : List UInt8 := [132, 5, 1, 167, 255, 213, 132, 3, 1, 167, 255, 180, 2, 172]
abbrev dktX0_game_5 : List UInt8 := dkwX0_game_5 ++ []
def dkwX0_game_4 : List UInt8 := [6, 112, 130, 21, 4, 21, 5, 100, 6, 112, 160, 0, 14, 27, 154, 0, 7, 29, 167, 0, 5, 21, 5, 172]
abbrev dktX0_game_4 : List UInt8 := dkwX0_game_4 ++ dktX0_game_5
def dkwX0_game_3 : List UInt8 := [182, 0, 230, 54, 4, 4, 54, 5, 21, 5, 5, 163, 0, 43, 21, 5, 21, 4, 163, 0, 36, 28, 21, 4]
abbrev dktX0_game_3 : List UInt8 := dkwX0_game_3 ++ dktX0_game_4
def dkwX0_game_2 : List UInt8 := [167, 255, 226, 3, 62, 29, 42, 180, 0, 20, 180, 0, 151, 162, 0, 71, 42, 180, 0, 20, 180, 0, 195, 29]
abbrev dktX0_game_2 : List UInt8 := dkwX0_game_2 ++ dktX0_game_3
def dkwX0_game_1 : List UInt8 := [162, 0, 25, 28, 42, 180, 0, 20, 180, 0, 195, 29, 182, 0, 230, 6, 112, 130, 61, 132, 3, 1]
abbrev dktX0_game_1 : List UInt8 := dkwX0_game_1 ++ dktX0_game_2
def dkwX0_game_0 : List UInt8 := [27, 3, 4, 184, 0, 78, 154, 0, 5, 2, 172, 3, 61, 3, 62, 29, 42, 180, 0, 20, 180, 0, 151]
abbrev dktX0_game_0 : List UInt8 := dkwX0_game_0 ++ dktX0_game_1
theorem dksX0_game_0 : cX0_game.data.toList.drop 0 = dktX0_game_0 := by decide +kernel
theorem dksX0_game_1 : cX0_game.data.toList.drop 23 = dktX0_game_1 := dk_seg dksX0_game_0 23 rfl rfl
theorem dksX0_game_2 : cX0_game.data.toList.drop 45 = dktX0_game_2 := dk_seg dksX0_game_1 22 rfl rfl
theorem dksX0_game_3 : cX0_game.data.toList.drop 69 = dktX0_game_3 := dk_seg dksX0_game_2 24 rfl rfl
theorem dksX0_game_4 : cX0_game.data.toList.drop 93 = dktX0_game_4 := dk_seg dksX0_game_3 24 rfl rfl
theorem dksX0_game_5 : cX0_game.data.toList.drop 117 = dktX0_game_5 := dk_seg dksX0_game_4 24 rfl rfl
theorem dX0_game_0 : decode cX0_game 0 = .ok (.iload_n 1, 1) := dk_27 (dk_at dksX0_game_0 0 rfl rfl)
theorem dX0_game_1 : decode cX0_game 1 = .ok (.iconst 0, 1) := dk_3 (dk_at dksX0_game_0 1 rfl rfl)
theorem dX0_game_2 : decode cX0_game 2 = .ok (.iconst 1, 1) := dk_4 (dk_at dksX0_game_0 2 rfl rfl)
theorem dX0_game_3 : decode cX0_game 3 = .ok (.invokestatic 78, 3) := dk_184 0 78 (dk_at dksX0_game_0 3 rfl rfl)
theorem dX0_game_6 : decode cX0_game 6 = .ok (.ifCond .ne 5, 3) := dk_154 0 5 (dk_at dksX0_game_0 6 rfl rfl)
theorem dX0_game_9 : decode cX0_game 9 = .ok (.iconst (-1), 1) := dk_2 (dk_at dksX0_game_0 9 rfl rfl)
theorem dX0_game_10 : decode cX0_game 10 = .ok (.ireturn, 1) := dk_172 (dk_at dksX0_game_0 10 rfl rfl)
theorem dX0_game_11 : decode cX0_game 11 = .ok (.iconst 0, 1) := dk_3 (dk_at dksX0_game_0 11 rfl rfl)
theorem dX0_game_12 : decode cX0_game 12 = .ok (.istore_n 2, 1) := dk_61 (dk_at dksX0_game_0 12 rfl rfl)
theorem dX0_game_13 : decode cX0_game 13 = .ok (.iconst 0, 1) := dk_3 (dk_at dksX0_game_0 13 rfl rfl)
theorem dX0_game_14 : decode cX0_game 14 = .ok (.istore_n 3, 1) := dk_62 (dk_at dksX0_game_0 14 rfl rfl)
theorem dX0_game_15 : decode cX0_game 15 = .ok (.iload_n 3, 1) := dk_29 (dk_at dksX0_game_0 15 rfl rfl)
theorem dX0_game_16 : decode cX0_game 16 = .ok (.aload_n 0, 1) := dk_42 (dk_at dksX0_game_0 16 rfl rfl)
theorem dX0_game_17 : decode cX0_game 17 = .ok (.getfield 20, 3) := dk_180 0 20 (dk_at dksX0_game_0 17 rfl rfl)
theorem dX0_game_20 : decode cX0_game 20 = .ok (.getfield 151, 3) := dk_180 0 151 (dk_at dksX0_game_0 20 rfl rfl)
theorem dX0_game_23 : decode cX0_game 23 = .ok (.if_icmp .ge 25, 3) := dk_162 0 25 (dk_at dksX0_game_1 0 rfl rfl)
theorem dX0_game_26 : decode cX0_game 26 = .ok (.iload_n 2, 1) := dk_28 (dk_at dksX0_game_1 3 rfl rfl)
theorem dX0_game_27 : decode cX0_game 27 = .ok (.aload_n 0, 1) := dk_42 (dk_at dksX0_game_1 4 rfl rfl)
theorem dX0_game_28 : decode cX0_game 28 = .ok (.getfield 20, 3) := dk_180 0 20 (dk_at dksX0_game_1 5 rfl rfl)
theorem dX0_game_31 : decode cX0_game 31 = .ok (.getfield 195, 3) := dk_180 0 195 (dk_at dksX0_game_1 8 rfl rfl)
theorem dX0_game_34 : decode cX0_game 34 = .ok (.iload_n 3, 1) := dk_29 (dk_at dksX0_game_1 11 rfl rfl)
theorem dX0_game_35 : decode cX0_game 35 = .ok (.invokevirtual 230, 3) := dk_182 0 230 (dk_at dksX0_game_1 12 rfl rfl)
theorem dX0_game_38 : decode cX0_game 38 = .ok (.iconst 3, 1) := dk_6 (dk_at dksX0_game_1 15 rfl rfl)
theorem dX0_game_39 : decode cX0_game 39 = .ok (.irem, 1) := dk_112 (dk_at dksX0_game_1 16 rfl rfl)
theorem dX0_game_40 : decode cX0_game 40 = .ok (.ixor, 1) := dk_130 (dk_at dksX0_game_1 17 rfl rfl)
theorem dX0_game_41 : decode cX0_game 41 = .ok (.istore_n 2, 1) := dk_61 (dk_at dksX0_game_1 18 rfl rfl)
theorem dX0_game_42 : decode cX0_game 42 = .ok (.iinc 3 1, 3) := dk_132 3 1 (dk_at dksX0_game_1 19 rfl rfl)
theorem dX0_game_45 : decode cX0_game 45 = .ok (.goto (-30), 3) := dk_167 255 226 (dk_at dksX0_game_2 0 rfl rfl)
theorem dX0_game_48 : decode cX0_game 48 = .ok (.iconst 0, 1) := dk_3 (dk_at dksX0_game_2 3 rfl rfl)
theorem dX0_game_49 : decode cX0_game 49 = .ok (.istore_n 3, 1) := dk_62 (dk_at dksX0_game_2 4 rfl rfl)
theorem dX0_game_50 : decode cX0_game 50 = .ok (.iload_n 3, 1) := dk_29 (dk_at dksX0_game_2 5 rfl rfl)
theorem dX0_game_51 : decode cX0_game 51 = .ok (.aload_n 0, 1) := dk_42 (dk_at dksX0_game_2 6 rfl rfl)
theorem dX0_game_52 : decode cX0_game 52 = .ok (.getfield 20, 3) := dk_180 0 20 (dk_at dksX0_game_2 7 rfl rfl)
theorem dX0_game_55 : decode cX0_game 55 = .ok (.getfield 151, 3) := dk_180 0 151 (dk_at dksX0_game_2 10 rfl rfl)
theorem dX0_game_58 : decode cX0_game 58 = .ok (.if_icmp .ge 71, 3) := dk_162 0 71 (dk_at dksX0_game_2 13 rfl rfl)
theorem dX0_game_61 : decode cX0_game 61 = .ok (.aload_n 0, 1) := dk_42 (dk_at dksX0_game_2 16 rfl rfl)
theorem dX0_game_62 : decode cX0_game 62 = .ok (.getfield 20, 3) := dk_180 0 20 (dk_at dksX0_game_2 17 rfl rfl)
theorem dX0_game_65 : decode cX0_game 65 = .ok (.getfield 195, 3) := dk_180 0 195 (dk_at dksX0_game_2 20 rfl rfl)
theorem dX0_game_68 : decode cX0_game 68 = .ok (.iload_n 3, 1) := dk_29 (dk_at dksX0_game_2 23 rfl rfl)
theorem dX0_game_69 : decode cX0_game 69 = .ok (.invokevirtual 230, 3) := dk_182 0 230 (dk_at dksX0_game_3 0 rfl rfl)
theorem dX0_game_72 : decode cX0_game 72 = .ok (.istore 4, 2) := dk_54 4 (dk_at dksX0_game_3 3 rfl rfl)
theorem dX0_game_74 : decode cX0_game 74 = .ok (.iconst 1, 1) := dk_4 (dk_at dksX0_game_3 5 rfl rfl)
theorem dX0_game_75 : decode cX0_game 75 = .ok (.istore 5, 2) := dk_54 5 (dk_at dksX0_game_3 6 rfl rfl)
theorem dX0_game_77 : decode cX0_game 77 = .ok (.iload 5, 2) := dk_21 5 (dk_at dksX0_game_3 8 rfl rfl)
theorem dX0_game_79 : decode cX0_game 79 = .ok (.iconst 2, 1) := dk_5 (dk_at dksX0_game_3 10 rfl rfl)
theorem dX0_game_80 : decode cX0_game 80 = .ok (.if_icmp .gt 43, 3) := dk_163 0 43 (dk_at dksX0_game_3 11 rfl rfl)
theorem dX0_game_83 : decode cX0_game 83 = .ok (.iload 5, 2) := dk_21 5 (dk_at dksX0_game_3 14 rfl rfl)
theorem dX0_game_85 : decode cX0_game 85 = .ok (.iload 4, 2) := dk_21 4 (dk_at dksX0_game_3 16 rfl rfl)
theorem dX0_game_87 : decode cX0_game 87 = .ok (.if_icmp .gt 36, 3) := dk_163 0 36 (dk_at dksX0_game_3 18 rfl rfl)
theorem dX0_game_90 : decode cX0_game 90 = .ok (.iload_n 2, 1) := dk_28 (dk_at dksX0_game_3 21 rfl rfl)
theorem dX0_game_91 : decode cX0_game 91 = .ok (.iload 4, 2) := dk_21 4 (dk_at dksX0_game_3 22 rfl rfl)
theorem dX0_game_93 : decode cX0_game 93 = .ok (.iconst 3, 1) := dk_6 (dk_at dksX0_game_4 0 rfl rfl)
theorem dX0_game_94 : decode cX0_game 94 = .ok (.irem, 1) := dk_112 (dk_at dksX0_game_4 1 rfl rfl)
theorem dX0_game_95 : decode cX0_game 95 = .ok (.ixor, 1) := dk_130 (dk_at dksX0_game_4 2 rfl rfl)
theorem dX0_game_96 : decode cX0_game 96 = .ok (.iload 4, 2) := dk_21 4 (dk_at dksX0_game_4 3 rfl rfl)
theorem dX0_game_98 : decode cX0_game 98 = .ok (.iload 5, 2) := dk_21 5 (dk_at dksX0_game_4 5 rfl rfl)
theorem dX0_game_100 : decode cX0_game 100 = .ok (.isub, 1) := dk_100 (dk_at dksX0_game_4 7 rfl rfl)
theorem dX0_game_101 : decode cX0_game 101 = .ok (.iconst 3, 1) := dk_6 (dk_at dksX0_game_4 8 rfl rfl)
theorem dX0_game_102 : decode cX0_game 102 = .ok (.irem, 1) := dk_112 (dk_at dksX0_game_4 9 rfl rfl)
theorem dX0_game_103 : decode cX0_game 103 = .ok (.if_icmp .ne 14, 3) := dk_160 0 14 (dk_at dksX0_game_4 10 rfl rfl)
theorem dX0_game_106 : decode cX0_game 106 = .ok (.iload_n 1, 1) := dk_27 (dk_at dksX0_game_4 13 rfl rfl)
theorem dX0_game_107 : decode cX0_game 107 = .ok (.ifCond .ne 7, 3) := dk_154 0 7 (dk_at dksX0_game_4 14 rfl rfl)
theorem dX0_game_110 : decode cX0_game 110 = .ok (.iload_n 3, 1) := dk_29 (dk_at dksX0_game_4 17 rfl rfl)
theorem dX0_game_111 : decode cX0_game 111 = .ok (.goto 5, 3) := dk_167 0 5 (dk_at dksX0_game_4 18 rfl rfl)
theorem dX0_game_114 : decode cX0_game 114 = .ok (.iload 5, 2) := dk_21 5 (dk_at dksX0_game_4 21 rfl rfl)
theorem dX0_game_116 : decode cX0_game 116 = .ok (.ireturn, 1) := dk_172 (dk_at dksX0_game_4 23 rfl rfl)
theorem dX0_game_117 : decode cX0_game 117 = .ok (.iinc 5 1, 3) := dk_132 5 1 (dk_at dksX0_game_5 0 rfl rfl)
theorem dX0_game_120 : decode cX0_game 120 = .ok (.goto (-43), 3) := dk_167 255 213 (dk_at dksX0_game_5 3 rfl rfl)
theorem dX0_game_123 : decode cX0_game 123 = .ok (.iinc 3 1, 3) := dk_132 3 1 (dk_at dksX0_game_5 6 rfl rfl)
theorem dX0_game_126 : decode cX0_game 126 = .ok (.goto (-76), 3) := dk_167 255 180 (dk_at dksX0_game_5 9 rfl rfl)
theorem dX0_game_129 : decode cX0_game 129 = .ok (.iconst (-1), 1) := dk_2 (dk_at dksX0_game_5 12 rfl rfl)
theorem dX0_game_130 : decode cX0_game 130 = .ok (.ireturn, 1) := dk_172 (dk_at dksX0_game_5 13 rfl rfl)
abbrev cX0_image : ByteArray := prog_1_method_60_code
def yX0_image : MethodName := ⟨RX0, "image", "(Z)Z"⟩
def dkwX0_image_2 : List UInt8 := [42, 182, 0, 105, 87, 42, 4, 181, 1, 101, 4, 172]
abbrev dktX0_image_2 : List UInt8 := dkwX0_image_2 ++ []
def dkwX0_image_1 : List UInt8 := [180, 0, 20, 182, 1, 104, 167, 0, 14, 42, 180, 0, 20, 42, 180, 0, 24, 182, 1, 104, 27, 154, 0, 8]
abbrev dktX0_image_1 : List UInt8 := dkwX0_image_1 ++ dktX0_image_2
def dkwX0_image_0 : List UInt8 := [27, 154, 0, 12, 42, 180, 1, 101, 154, 0, 5, 3, 172, 27, 153, 0, 17, 42, 180, 0, 24, 42]
abbrev dktX0_image_0 : List UInt8 := dkwX0_image_0 ++ dktX0_image_1
theorem dksX0_image_0 : cX0_image.data.toList.drop 0 = dktX0_image_0 := by decide +kernel
theorem dksX0_image_1 : cX0_image.data.toList.drop 22 = dktX0_image_1 := dk_seg dksX0_image_0 22 rfl rfl
theorem dksX0_image_2 : cX0_image.data.toList.drop 46 = dktX0_image_2 := dk_seg dksX0_image_1 24 rfl rfl
theorem dX0_image_0 : decode cX0_image 0 = .ok (.iload_n 1, 1) := dk_27 (dk_at dksX0_image_0 0 rfl rfl)
theorem dX0_image_1 : decode cX0_image 1 = .ok (.ifCond .ne 12, 3) := dk_154 0 12 (dk_at dksX0_image_0 1 rfl rfl)
theorem dX0_image_4 : decode cX0_image 4 = .ok (.aload_n 0, 1) := dk_42 (dk_at dksX0_image_0 4 rfl rfl)
theorem dX0_image_5 : decode cX0_image 5 = .ok (.getfield 357, 3) := dk_180 1 101 (dk_at dksX0_image_0 5 rfl rfl)
theorem dX0_image_8 : decode cX0_image 8 = .ok (.ifCond .ne 5, 3) := dk_154 0 5 (dk_at dksX0_image_0 8 rfl rfl)
theorem dX0_image_11 : decode cX0_image 11 = .ok (.iconst 0, 1) := dk_3 (dk_at dksX0_image_0 11 rfl rfl)
theorem dX0_image_12 : decode cX0_image 12 = .ok (.ireturn, 1) := dk_172 (dk_at dksX0_image_0 12 rfl rfl)
theorem dX0_image_13 : decode cX0_image 13 = .ok (.iload_n 1, 1) := dk_27 (dk_at dksX0_image_0 13 rfl rfl)
theorem dX0_image_14 : decode cX0_image 14 = .ok (.ifCond .eq 17, 3) := dk_153 0 17 (dk_at dksX0_image_0 14 rfl rfl)
theorem dX0_image_17 : decode cX0_image 17 = .ok (.aload_n 0, 1) := dk_42 (dk_at dksX0_image_0 17 rfl rfl)
theorem dX0_image_18 : decode cX0_image 18 = .ok (.getfield 24, 3) := dk_180 0 24 (dk_at dksX0_image_0 18 rfl rfl)
theorem dX0_image_21 : decode cX0_image 21 = .ok (.aload_n 0, 1) := dk_42 (dk_at dksX0_image_0 21 rfl rfl)
theorem dX0_image_22 : decode cX0_image 22 = .ok (.getfield 20, 3) := dk_180 0 20 (dk_at dksX0_image_1 0 rfl rfl)
theorem dX0_image_25 : decode cX0_image 25 = .ok (.invokevirtual 360, 3) := dk_182 1 104 (dk_at dksX0_image_1 3 rfl rfl)
theorem dX0_image_28 : decode cX0_image 28 = .ok (.goto 14, 3) := dk_167 0 14 (dk_at dksX0_image_1 6 rfl rfl)
theorem dX0_image_31 : decode cX0_image 31 = .ok (.aload_n 0, 1) := dk_42 (dk_at dksX0_image_1 9 rfl rfl)
theorem dX0_image_32 : decode cX0_image 32 = .ok (.getfield 20, 3) := dk_180 0 20 (dk_at dksX0_image_1 10 rfl rfl)
theorem dX0_image_35 : decode cX0_image 35 = .ok (.aload_n 0, 1) := dk_42 (dk_at dksX0_image_1 13 rfl rfl)
theorem dX0_image_36 : decode cX0_image 36 = .ok (.getfield 24, 3) := dk_180 0 24 (dk_at dksX0_image_1 14 rfl rfl)
theorem dX0_image_39 : decode cX0_image 39 = .ok (.invokevirtual 360, 3) := dk_182 1 104 (dk_at dksX0_image_1 17 rfl rfl)
theorem dX0_image_42 : decode cX0_image 42 = .ok (.iload_n 1, 1) := dk_27 (dk_at dksX0_image_1 20 rfl rfl)
theorem dX0_image_43 : decode cX0_image 43 = .ok (.ifCond .ne 8, 3) := dk_154 0 8 (dk_at dksX0_image_1 21 rfl rfl)
theorem dX0_image_46 : decode cX0_image 46 = .ok (.aload_n 0, 1) := dk_42 (dk_at dksX0_image_2 0 rfl rfl)
theorem dX0_image_47 : decode cX0_image 47 = .ok (.invokevirtual 105, 3) := dk_182 0 105 (dk_at dksX0_image_2 1 rfl rfl)
theorem dX0_image_50 : decode cX0_image 50 = .ok (.pop, 1) := dk_87 (dk_at dksX0_image_2 4 rfl rfl)
theorem dX0_image_51 : decode cX0_image 51 = .ok (.aload_n 0, 1) := dk_42 (dk_at dksX0_image_2 5 rfl rfl)
theorem dX0_image_52 : decode cX0_image 52 = .ok (.iconst 1, 1) := dk_4 (dk_at dksX0_image_2 6 rfl rfl)
theorem dX0_image_53 : decode cX0_image 53 = .ok (.putfield 357, 3) := dk_181 1 101 (dk_at dksX0_image_2 7 rfl rfl)
theorem dX0_image_56 : decode cX0_image 56 = .ok (.iconst 1, 1) := dk_4 (dk_at dksX0_image_2 10 rfl rfl)
theorem dX0_image_57 : decode cX0_image 57 = .ok (.ireturn, 1) := dk_172 (dk_at dksX0_image_2 11 rfl rfl)
abbrev cX0_look : ByteArray := prog_1_method_61_code
def yX0_look : MethodName := ⟨RX0, "look", "(I)I"⟩
def dkwX0_look_7 : List UInt8 := [180, 0, 118, 172, 42, 180, 0, 20, 180, 0, 127, 172, 42, 180, 0, 144, 172, 2, 172]
abbrev dktX0_look_7 : List UInt8 := dkwX0_look_7 ++ []
def dkwX0_look_6 : List UInt8 := [180, 0, 91, 182, 0, 94, 172, 42, 180, 0, 20, 180, 0, 103, 182, 0, 94, 172, 42, 180, 0, 20]
abbrev dktX0_look_6 : List UInt8 := dkwX0_look_6 ++ dktX0_look_7
def dkwX0_look_5 : List UInt8 := [180, 0, 221, 172, 42, 180, 0, 20, 180, 1, 10, 172, 42, 180, 0, 20, 180, 0, 158, 172, 42, 180, 0, 20]
abbrev dktX0_look_5 : List UInt8 := dkwX0_look_5 ++ dktX0_look_6
def dkwX0_look_4 : List UInt8 := [180, 1, 19, 172, 42, 180, 0, 20, 180, 1, 110, 172, 42, 180, 0, 20, 180, 0, 218, 172, 42, 180, 0, 20]
abbrev dktX0_look_4 : List UInt8 := dkwX0_look_4 ++ dktX0_look_5
def dkwX0_look_3 : List UInt8 := [180, 0, 186, 172, 42, 180, 0, 20, 180, 0, 189, 172, 42, 180, 0, 20, 180, 1, 107, 172, 42, 180, 0, 20]
abbrev dktX0_look_3 : List UInt8 := dkwX0_look_3 ++ dktX0_look_4
def dkwX0_look_2 : List UInt8 := [42, 180, 0, 20, 180, 0, 151, 172, 42, 180, 0, 20, 180, 0, 195, 180, 0, 199, 172, 42, 180, 0, 20]
abbrev dktX0_look_2 : List UInt8 := dkwX0_look_2 ++ dktX0_look_3
def dkwX0_look_1 : List UInt8 := [170, 0, 0, 0, 0, 0, 213, 0, 0, 0, 0, 0, 0, 0, 15, 0, 0, 0, 79, 0, 0, 0, 87, 0, 0, 0, 98, 0, 0, 0, 106, 0, 0, 0, 114, 0, 0, 0, 122, 0, 0, 0, 130, 0, 0, 0, 138, 0, 0, 0, 146, 0, 0, 0, 154, 0, 0, 0, 162, 0, 0, 0, 170, 0, 0, 0, 181, 0, 0, 0, 192, 0, 0, 0, 200, 0, 0, 0, 208]
abbrev dktX0_look_1 : List UInt8 := dkwX0_look_1 ++ dktX0_look_2
def dkwX0_look_0 : List UInt8 := [27]
abbrev dktX0_look_0 : List UInt8 := dkwX0_look_0 ++ dktX0_look_1
theorem dksX0_look_0 : cX0_look.data.toList.drop 0 = dktX0_look_0 := by decide +kernel
theorem dksX0_look_1 : cX0_look.data.toList.drop 1 = dktX0_look_1 := dk_seg dksX0_look_0 1 rfl rfl
theorem dksX0_look_2 : cX0_look.data.toList.drop 80 = dktX0_look_2 := dk_seg dksX0_look_1 79 rfl rfl
theorem dksX0_look_3 : cX0_look.data.toList.drop 103 = dktX0_look_3 := dk_seg dksX0_look_2 23 rfl rfl
theorem dksX0_look_4 : cX0_look.data.toList.drop 127 = dktX0_look_4 := dk_seg dksX0_look_3 24 rfl rfl
theorem dksX0_look_5 : cX0_look.data.toList.drop 151 = dktX0_look_5 := dk_seg dksX0_look_4 24 rfl rfl
theorem dksX0_look_6 : cX0_look.data.toList.drop 175 = dktX0_look_6 := dk_seg dksX0_look_5 24 rfl rfl
theorem dksX0_look_7 : cX0_look.data.toList.drop 197 = dktX0_look_7 := dk_seg dksX0_look_6 22 rfl rfl
theorem dX0_look_0 : decode cX0_look 0 = .ok (.iload_n 1, 1) := dk_27 (dk_at dksX0_look_0 0 rfl rfl)
theorem dX0_look_1 : decode cX0_look 1 = .ok (.tableswitch 213 0 15 #[79, 87, 98, 106, 114, 122, 130, 138, 146, 154, 162, 170, 181, 192, 200, 208], 79) := by decide +kernel
theorem dX0_look_80 : decode cX0_look 80 = .ok (.aload_n 0, 1) := dk_42 (dk_at dksX0_look_2 0 rfl rfl)
theorem dX0_look_81 : decode cX0_look 81 = .ok (.getfield 20, 3) := dk_180 0 20 (dk_at dksX0_look_2 1 rfl rfl)
theorem dX0_look_84 : decode cX0_look 84 = .ok (.getfield 151, 3) := dk_180 0 151 (dk_at dksX0_look_2 4 rfl rfl)
theorem dX0_look_87 : decode cX0_look 87 = .ok (.ireturn, 1) := dk_172 (dk_at dksX0_look_2 7 rfl rfl)
theorem dX0_look_88 : decode cX0_look 88 = .ok (.aload_n 0, 1) := dk_42 (dk_at dksX0_look_2 8 rfl rfl)
theorem dX0_look_89 : decode cX0_look 89 = .ok (.getfield 20, 3) := dk_180 0 20 (dk_at dksX0_look_2 9 rfl rfl)
theorem dX0_look_92 : decode cX0_look 92 = .ok (.getfield 195, 3) := dk_180 0 195 (dk_at dksX0_look_2 12 rfl rfl)
theorem dX0_look_95 : decode cX0_look 95 = .ok (.getfield 199, 3) := dk_180 0 199 (dk_at dksX0_look_2 15 rfl rfl)
theorem dX0_look_98 : decode cX0_look 98 = .ok (.ireturn, 1) := dk_172 (dk_at dksX0_look_2 18 rfl rfl)
theorem dX0_look_99 : decode cX0_look 99 = .ok (.aload_n 0, 1) := dk_42 (dk_at dksX0_look_2 19 rfl rfl)
theorem dX0_look_100 : decode cX0_look 100 = .ok (.getfield 20, 3) := dk_180 0 20 (dk_at dksX0_look_2 20 rfl rfl)
theorem dX0_look_103 : decode cX0_look 103 = .ok (.getfield 186, 3) := dk_180 0 186 (dk_at dksX0_look_3 0 rfl rfl)
theorem dX0_look_106 : decode cX0_look 106 = .ok (.ireturn, 1) := dk_172 (dk_at dksX0_look_3 3 rfl rfl)
theorem dX0_look_107 : decode cX0_look 107 = .ok (.aload_n 0, 1) := dk_42 (dk_at dksX0_look_3 4 rfl rfl)
theorem dX0_look_108 : decode cX0_look 108 = .ok (.getfield 20, 3) := dk_180 0 20 (dk_at dksX0_look_3 5 rfl rfl)
theorem dX0_look_111 : decode cX0_look 111 = .ok (.getfield 189, 3) := dk_180 0 189 (dk_at dksX0_look_3 8 rfl rfl)
theorem dX0_look_114 : decode cX0_look 114 = .ok (.ireturn, 1) := dk_172 (dk_at dksX0_look_3 11 rfl rfl)
theorem dX0_look_115 : decode cX0_look 115 = .ok (.aload_n 0, 1) := dk_42 (dk_at dksX0_look_3 12 rfl rfl)
theorem dX0_look_116 : decode cX0_look 116 = .ok (.getfield 20, 3) := dk_180 0 20 (dk_at dksX0_look_3 13 rfl rfl)
theorem dX0_look_119 : decode cX0_look 119 = .ok (.getfield 363, 3) := dk_180 1 107 (dk_at dksX0_look_3 16 rfl rfl)
theorem dX0_look_122 : decode cX0_look 122 = .ok (.ireturn, 1) := dk_172 (dk_at dksX0_look_3 19 rfl rfl)
theorem dX0_look_123 : decode cX0_look 123 = .ok (.aload_n 0, 1) := dk_42 (dk_at dksX0_look_3 20 rfl rfl)
theorem dX0_look_124 : decode cX0_look 124 = .ok (.getfield 20, 3) := dk_180 0 20 (dk_at dksX0_look_3 21 rfl rfl)
theorem dX0_look_127 : decode cX0_look 127 = .ok (.getfield 275, 3) := dk_180 1 19 (dk_at dksX0_look_4 0 rfl rfl)
theorem dX0_look_130 : decode cX0_look 130 = .ok (.ireturn, 1) := dk_172 (dk_at dksX0_look_4 3 rfl rfl)
theorem dX0_look_131 : decode cX0_look 131 = .ok (.aload_n 0, 1) := dk_42 (dk_at dksX0_look_4 4 rfl rfl)
theorem dX0_look_132 : decode cX0_look 132 = .ok (.getfield 20, 3) := dk_180 0 20 (dk_at dksX0_look_4 5 rfl rfl)
theorem dX0_look_135 : decode cX0_look 135 = .ok (.getfield 366, 3) := dk_180 1 110 (dk_at dksX0_look_4 8 rfl rfl)
theorem dX0_look_138 : decode cX0_look 138 = .ok (.ireturn, 1) := dk_172 (dk_at dksX0_look_4 11 rfl rfl)
theorem dX0_look_139 : decode cX0_look 139 = .ok (.aload_n 0, 1) := dk_42 (dk_at dksX0_look_4 12 rfl rfl)
theorem dX0_look_140 : decode cX0_look 140 = .ok (.getfield 20, 3) := dk_180 0 20 (dk_at dksX0_look_4 13 rfl rfl)
theorem dX0_look_143 : decode cX0_look 143 = .ok (.getfield 218, 3) := dk_180 0 218 (dk_at dksX0_look_4 16 rfl rfl)
theorem dX0_look_146 : decode cX0_look 146 = .ok (.ireturn, 1) := dk_172 (dk_at dksX0_look_4 19 rfl rfl)
theorem dX0_look_147 : decode cX0_look 147 = .ok (.aload_n 0, 1) := dk_42 (dk_at dksX0_look_4 20 rfl rfl)
theorem dX0_look_148 : decode cX0_look 148 = .ok (.getfield 20, 3) := dk_180 0 20 (dk_at dksX0_look_4 21 rfl rfl)
theorem dX0_look_151 : decode cX0_look 151 = .ok (.getfield 221, 3) := dk_180 0 221 (dk_at dksX0_look_5 0 rfl rfl)
theorem dX0_look_154 : decode cX0_look 154 = .ok (.ireturn, 1) := dk_172 (dk_at dksX0_look_5 3 rfl rfl)
theorem dX0_look_155 : decode cX0_look 155 = .ok (.aload_n 0, 1) := dk_42 (dk_at dksX0_look_5 4 rfl rfl)
theorem dX0_look_156 : decode cX0_look 156 = .ok (.getfield 20, 3) := dk_180 0 20 (dk_at dksX0_look_5 5 rfl rfl)
theorem dX0_look_159 : decode cX0_look 159 = .ok (.getfield 266, 3) := dk_180 1 10 (dk_at dksX0_look_5 8 rfl rfl)
theorem dX0_look_162 : decode cX0_look 162 = .ok (.ireturn, 1) := dk_172 (dk_at dksX0_look_5 11 rfl rfl)
theorem dX0_look_163 : decode cX0_look 163 = .ok (.aload_n 0, 1) := dk_42 (dk_at dksX0_look_5 12 rfl rfl)
theorem dX0_look_164 : decode cX0_look 164 = .ok (.getfield 20, 3) := dk_180 0 20 (dk_at dksX0_look_5 13 rfl rfl)
theorem dX0_look_167 : decode cX0_look 167 = .ok (.getfield 158, 3) := dk_180 0 158 (dk_at dksX0_look_5 16 rfl rfl)
theorem dX0_look_170 : decode cX0_look 170 = .ok (.ireturn, 1) := dk_172 (dk_at dksX0_look_5 19 rfl rfl)
theorem dX0_look_171 : decode cX0_look 171 = .ok (.aload_n 0, 1) := dk_42 (dk_at dksX0_look_5 20 rfl rfl)
theorem dX0_look_172 : decode cX0_look 172 = .ok (.getfield 20, 3) := dk_180 0 20 (dk_at dksX0_look_5 21 rfl rfl)
theorem dX0_look_175 : decode cX0_look 175 = .ok (.getfield 91, 3) := dk_180 0 91 (dk_at dksX0_look_6 0 rfl rfl)
theorem dX0_look_178 : decode cX0_look 178 = .ok (.invokevirtual 94, 3) := dk_182 0 94 (dk_at dksX0_look_6 3 rfl rfl)
theorem dX0_look_181 : decode cX0_look 181 = .ok (.ireturn, 1) := dk_172 (dk_at dksX0_look_6 6 rfl rfl)
theorem dX0_look_182 : decode cX0_look 182 = .ok (.aload_n 0, 1) := dk_42 (dk_at dksX0_look_6 7 rfl rfl)
theorem dX0_look_183 : decode cX0_look 183 = .ok (.getfield 20, 3) := dk_180 0 20 (dk_at dksX0_look_6 8 rfl rfl)
theorem dX0_look_186 : decode cX0_look 186 = .ok (.getfield 103, 3) := dk_180 0 103 (dk_at dksX0_look_6 11 rfl rfl)
theorem dX0_look_189 : decode cX0_look 189 = .ok (.invokevirtual 94, 3) := dk_182 0 94 (dk_at dksX0_look_6 14 rfl rfl)
theorem dX0_look_192 : decode cX0_look 192 = .ok (.ireturn, 1) := dk_172 (dk_at dksX0_look_6 17 rfl rfl)
theorem dX0_look_193 : decode cX0_look 193 = .ok (.aload_n 0, 1) := dk_42 (dk_at dksX0_look_6 18 rfl rfl)
theorem dX0_look_194 : decode cX0_look 194 = .ok (.getfield 20, 3) := dk_180 0 20 (dk_at dksX0_look_6 19 rfl rfl)
theorem dX0_look_197 : decode cX0_look 197 = .ok (.getfield 118, 3) := dk_180 0 118 (dk_at dksX0_look_7 0 rfl rfl)
theorem dX0_look_200 : decode cX0_look 200 = .ok (.ireturn, 1) := dk_172 (dk_at dksX0_look_7 3 rfl rfl)
theorem dX0_look_201 : decode cX0_look 201 = .ok (.aload_n 0, 1) := dk_42 (dk_at dksX0_look_7 4 rfl rfl)
theorem dX0_look_202 : decode cX0_look 202 = .ok (.getfield 20, 3) := dk_180 0 20 (dk_at dksX0_look_7 5 rfl rfl)
theorem dX0_look_205 : decode cX0_look 205 = .ok (.getfield 127, 3) := dk_180 0 127 (dk_at dksX0_look_7 8 rfl rfl)
theorem dX0_look_208 : decode cX0_look 208 = .ok (.ireturn, 1) := dk_172 (dk_at dksX0_look_7 11 rfl rfl)
theorem dX0_look_209 : decode cX0_look 209 = .ok (.aload_n 0, 1) := dk_42 (dk_at dksX0_look_7 12 rfl rfl)
theorem dX0_look_210 : decode cX0_look 210 = .ok (.getfield 144, 3) := dk_180 0 144 (dk_at dksX0_look_7 13 rfl rfl)
theorem dX0_look_213 : decode cX0_look 213 = .ok (.ireturn, 1) := dk_172 (dk_at dksX0_look_7 16 rfl rfl)
theorem dX0_look_214 : decode cX0_look 214 = .ok (.iconst (-1), 1) := dk_2 (dk_at dksX0_look_7 17 rfl rfl)
theorem dX0_look_215 : decode cX0_look 215 = .ok (.ireturn, 1) := dk_172 (dk_at dksX0_look_7 18 rfl rfl)
theorem q143 : (Jvm.Cond.initialized "KindPostman") ∈ lw_all := lw_g (lw_at lw_m1 1 rfl) rfl
theorem q175 : (Jvm.Cond.instantiable "KindPostman" (17 : Nat)) ∈ lw_all := lw_g (lw_at lw_m1 33 rfl) rfl
theorem q177 : (Jvm.Cond.instanceMethod ({ cls := "KindPostman", name := "<init>", desc := "()V" } : Jvm.MethodName)) ∈ lw_all := lw_g (lw_at lw_m1 35 rfl) rfl
theorem q178 : (Jvm.Cond.code ({ cls := "KindPostman", name := "<init>", desc := "()V" } : Jvm.MethodName) prog_1_method_1_code (2 : Nat) (Option.none : Option Jvm.ClassFile.FieldType)) ∈ lw_all := lw_g (lw_at lw_m1 36 rfl) rfl
theorem q179 : (Jvm.Cond.methodLink "KindPostman" (1 : Nat) ({ cls := "java/lang/Object", name := "<init>", desc := "()V" } : Jvm.MethodName)) ∈ lw_all := lw_g (lw_at lw_m1 37 rfl) rfl
theorem q182 : (Jvm.Cond.classLink "KindPostman" (17 : Nat) "KindPostman$Walk") ∈ lw_all := lw_g (lw_at lw_m1 40 rfl) rfl
theorem q184 : (Jvm.Cond.methodLink "KindPostman" (19 : Nat) ({ cls := "KindPostman$Walk", name := "<init>", desc := "()V" } : Jvm.MethodName)) ∈ lw_all := lw_g (lw_at lw_m1 42 rfl) rfl
theorem q206 : (Jvm.Cond.fieldLinkNest "KindPostman" (239 : Nat) "KindPostman$Letter" "number" "I" "KindPostman") ∈ lw_tbl := lw_at lw_m1 64 rfl
theorem q210 : (Jvm.Cond.fieldLinkNest "KindPostman" (244 : Nat) "KindPostman$Letter" "door" "I" "KindPostman") ∈ lw_tbl := lw_at lw_m1 68 rfl
theorem q213 : (Jvm.Cond.fieldLinkNest "KindPostman" (246 : Nat) "KindPostman$Letter" "kind" "I" "KindPostman") ∈ lw_tbl := lw_at lw_m1 71 rfl
theorem q216 : (Jvm.Cond.fieldLinkNest "KindPostman" (247 : Nat) "KindPostman$Letter" "much" "I" "KindPostman") ∈ lw_tbl := lw_at lw_m1 74 rfl
theorem q219 : (Jvm.Cond.fieldLinkNest "KindPostman" (250 : Nat) "KindPostman$Letter" "age" "I" "KindPostman") ∈ lw_tbl := lw_at lw_m1 77 rfl
theorem q234 : (Jvm.Cond.fieldLinkNest "KindPostman" (235 : Nat) "KindPostman$Bag" "letter" "[LKindPostman$Letter;" "KindPostman") ∈ lw_tbl := lw_at lw_m1 92 rfl
theorem q237 : (Jvm.Cond.fieldLinkNest "KindPostman" (199 : Nat) "KindPostman$Bag" "many" "I" "KindPostman") ∈ lw_tbl := lw_at lw_m1 95 rfl
theorem q253 : (Jvm.Cond.fieldLinkNest "KindPostman" (308 : Nat) "KindPostman$Rows" "row" "[[I" "KindPostman") ∈ lw_tbl := lw_at lw_m1 111 rfl
theorem q255 : (Jvm.Cond.fieldLinkNest "KindPostman" (302 : Nat) "KindPostman$Rows" "many" "I" "KindPostman") ∈ lw_tbl := lw_at lw_m1 113 rfl
theorem q295 : (Jvm.Cond.fieldLinkNest "KindPostman" (177 : Nat) "KindPostman$Door" "face" "I" "KindPostman") ∈ lw_tbl := lw_at lw_m1 153 rfl
theorem q298 : (Jvm.Cond.fieldLinkNest "KindPostman" (180 : Nat) "KindPostman$Door" "love" "I" "KindPostman") ∈ lw_tbl := lw_at lw_m1 156 rfl
theorem q301 : (Jvm.Cond.fieldLinkNest "KindPostman" (183 : Nat) "KindPostman$Door" "purse" "I" "KindPostman") ∈ lw_tbl := lw_at lw_m1 159 rfl
theorem q304 : (Jvm.Cond.fieldLinkNest "KindPostman" (227 : Nat) "KindPostman$Door" "got" "I" "KindPostman") ∈ lw_tbl := lw_at lw_m1 162 rfl
theorem q315 : (Jvm.Cond.fieldLinkNest "KindPostman" (154 : Nat) "KindPostman$Walk" "door" "[LKindPostman$Door;" "KindPostman") ∈ lw_tbl := lw_at lw_m1 173 rfl
theorem q317 : (Jvm.Cond.fieldLinkNest "KindPostman" (195 : Nat) "KindPostman$Walk" "bag" "LKindPostman$Bag;" "KindPostman") ∈ lw_tbl := lw_at lw_m1 175 rfl
theorem q319 : (Jvm.Cond.fieldLinkNest "KindPostman" (263 : Nat) "KindPostman$Walk" "given" "[I" "KindPostman") ∈ lw_tbl := lw_at lw_m1 177 rfl
theorem q321 : (Jvm.Cond.fieldLinkNest "KindPostman" (327 : Nat) "KindPostman$Walk" "has" "[I" "KindPostman") ∈ lw_tbl := lw_at lw_m1 179 rfl
theorem q323 : (Jvm.Cond.fieldLinkNest "KindPostman" (269 : Nat) "KindPostman$Walk" "book" "[[I" "KindPostman") ∈ lw_tbl := lw_at lw_m1 181 rfl
theorem q325 : (Jvm.Cond.fieldLinkNest "KindPostman" (289 : Nat) "KindPostman$Walk" "blows" "LKindPostman$Rows;" "KindPostman") ∈ lw_tbl := lw_at lw_m1 183 rfl
theorem q327 : (Jvm.Cond.fieldLinkNest "KindPostman" (318 : Nat) "KindPostman$Walk" "owed" "LKindPostman$Rows;" "KindPostman") ∈ lw_tbl := lw_at lw_m1 185 rfl
theorem q329 : (Jvm.Cond.fieldLinkNest "KindPostman" (330 : Nat) "KindPostman$Walk" "word" "LKindPostman$Rows;" "KindPostman") ∈ lw_tbl := lw_at lw_m1 187 rfl
theorem q331 : (Jvm.Cond.fieldLinkNest "KindPostman" (335 : Nat) "KindPostman$Walk" "answers" "LKindPostman$Rows;" "KindPostman") ∈ lw_tbl := lw_at lw_m1 189 rfl
theorem q333 : (Jvm.Cond.fieldLinkNest "KindPostman" (344 : Nat) "KindPostman$Walk" "faces" "LKindPostman$Rows;" "KindPostman") ∈ lw_tbl := lw_at lw_m1 191 rfl
theorem q335 : (Jvm.Cond.fieldLinkNest "KindPostman" (91 : Nat) "KindPostman$Walk" "law" "Ljava/util/ArrayList;" "KindPostman") ∈ lw_tbl := lw_at lw_m1 193 rfl
theorem q337 : (Jvm.Cond.fieldLinkNest "KindPostman" (103 : Nat) "KindPostman$Walk" "post" "Ljava/util/ArrayList;" "KindPostman") ∈ lw_tbl := lw_at lw_m1 195 rfl
theorem q339 : (Jvm.Cond.fieldLinkNest "KindPostman" (113 : Nat) "KindPostman$Walk" "round" "[I" "KindPostman") ∈ lw_tbl := lw_at lw_m1 197 rfl
theorem q341 : (Jvm.Cond.fieldLinkNest "KindPostman" (124 : Nat) "KindPostman$Walk" "street" "[I" "KindPostman") ∈ lw_tbl := lw_at lw_m1 199 rfl
theorem q344 : (Jvm.Cond.fieldLinkNest "KindPostman" (151 : Nat) "KindPostman$Walk" "doors" "I" "KindPostman") ∈ lw_tbl := lw_at lw_m1 202 rfl
theorem q346 : (Jvm.Cond.fieldLinkNest "KindPostman" (186 : Nat) "KindPostman$Walk" "health" "I" "KindPostman") ∈ lw_tbl := lw_at lw_m1 204 rfl
theorem q348 : (Jvm.Cond.fieldLinkNest "KindPostman" (189 : Nat) "KindPostman$Walk" "hunger" "I" "KindPostman") ∈ lw_tbl := lw_at lw_m1 206 rfl
theorem q350 : (Jvm.Cond.fieldLinkNest "KindPostman" (363 : Nat) "KindPostman$Walk" "sat" "I" "KindPostman") ∈ lw_tbl := lw_at lw_m1 208 rfl
theorem q352 : (Jvm.Cond.fieldLinkNest "KindPostman" (275 : Nat) "KindPostman$Walk" "lost" "I" "KindPostman") ∈ lw_tbl := lw_at lw_m1 210 rfl
theorem q354 : (Jvm.Cond.fieldLinkNest "KindPostman" (366 : Nat) "KindPostman$Walk" "hour" "I" "KindPostman") ∈ lw_tbl := lw_at lw_m1 212 rfl
theorem q356 : (Jvm.Cond.fieldLinkNest "KindPostman" (218 : Nat) "KindPostman$Walk" "rain" "I" "KindPostman") ∈ lw_tbl := lw_at lw_m1 214 rfl
theorem q358 : (Jvm.Cond.fieldLinkNest "KindPostman" (221 : Nat) "KindPostman$Walk" "day" "I" "KindPostman") ∈ lw_tbl := lw_at lw_m1 216 rfl
theorem q360 : (Jvm.Cond.fieldLinkNest "KindPostman" (210 : Nat) "KindPostman$Walk" "numbers" "I" "KindPostman") ∈ lw_tbl := lw_at lw_m1 218 rfl
theorem q362 : (Jvm.Cond.fieldLinkNest "KindPostman" (158 : Nat) "KindPostman$Walk" "state" "I" "KindPostman") ∈ lw_tbl := lw_at lw_m1 220 rfl
theorem q364 : (Jvm.Cond.fieldLinkNest "KindPostman" (266 : Nat) "KindPostman$Walk" "lines" "I" "KindPostman") ∈ lw_tbl := lw_at lw_m1 222 rfl
theorem q366 : (Jvm.Cond.fieldLinkNest "KindPostman" (118 : Nat) "KindPostman$Walk" "rounds" "I" "KindPostman") ∈ lw_tbl := lw_at lw_m1 224 rfl
theorem q368 : (Jvm.Cond.fieldLinkNest "KindPostman" (127 : Nat) "KindPostman$Walk" "streets" "I" "KindPostman") ∈ lw_tbl := lw_at lw_m1 226 rfl
theorem q369 : (Jvm.Cond.fieldLinkNest "KindPostman" (34 : Nat) "KindPostman$Walk" "isThought" "Z" "KindPostman") ∈ lw_tbl := lw_at lw_m1 227 rfl
theorem q432 : (Jvm.Cond.classLink "KindPostman" (38 : Nat) "[[I") ∈ lw_all := lw_g (lw_at lw_m2 50 rfl) rfl
theorem q433 : (Jvm.Cond.fieldLink "KindPostman" (9 : Nat) "KindPostman" "tape" "[B") ∈ lw_all := lw_g (lw_at lw_m2 51 rfl) rfl
theorem q436 : (Jvm.Cond.fieldLink "KindPostman" (71 : Nat) "KindPostman" "taped" "I") ∈ lw_all := lw_g (lw_at lw_m2 54 rfl) rfl
theorem q437 : (Jvm.Cond.fieldLink "KindPostman" (129 : Nat) "KindPostman" "faultKind" "I") ∈ lw_all := lw_g (lw_at lw_m2 55 rfl) rfl
theorem q438 : (Jvm.Cond.fieldLink "KindPostman" (13 : Nat) "KindPostman" "faultPlace" "I") ∈ lw_all := lw_g (lw_at lw_m2 56 rfl) rfl
theorem q439 : (Jvm.Cond.fieldLink "KindPostman" (20 : Nat) "KindPostman" "walk" "LKindPostman$Walk;") ∈ lw_all := lw_g (lw_at lw_m2 57 rfl) rfl
theorem q441 : (Jvm.Cond.fieldLink "KindPostman" (24 : Nat) "KindPostman" "kept" "LKindPostman$Walk;") ∈ lw_all := lw_g (lw_at lw_m2 59 rfl) rfl
theorem q442 : (Jvm.Cond.fieldLink "KindPostman" (27 : Nat) "KindPostman" "thought" "LKindPostman$Walk;") ∈ lw_all := lw_g (lw_at lw_m2 60 rfl) rfl
theorem q443 : (Jvm.Cond.fieldLink "KindPostman" (30 : Nat) "KindPostman" "back" "[LKindPostman$Walk;") ∈ lw_all := lw_g (lw_at lw_m2 61 rfl) rfl
theorem q444 : (Jvm.Cond.fieldLink "KindPostman" (144 : Nat) "KindPostman" "backMany" "I") ∈ lw_all := lw_g (lw_at lw_m2 62 rfl) rfl
theorem q445 : (Jvm.Cond.fieldLink "KindPostman" (357 : Nat) "KindPostman" "hasImage" "Z") ∈ lw_all := lw_g (lw_at lw_m2 63 rfl) rfl
theorem q446 : (Jvm.Cond.fieldLink "KindPostman" (40 : Nat) "KindPostman" "far" "[[I") ∈ lw_all := lw_g (lw_at lw_m2 64 rfl) rfl
theorem q447 : (Jvm.Cond.fieldLink "KindPostman" (43 : Nat) "KindPostman" "walked" "[[I") ∈ lw_all := lw_g (lw_at lw_m2 65 rfl) rfl
theorem q448 : (Jvm.Cond.fieldLink "KindPostman" (46 : Nat) "KindPostman" "goal" "[I") ∈ lw_all := lw_g (lw_at lw_m2 66 rfl) rfl
theorem q449 : (Jvm.Cond.fieldLink "KindPostman" (50 : Nat) "KindPostman" "mostOf" "[I") ∈ lw_all := lw_g (lw_at lw_m2 67 rfl) rfl
theorem q450 : (Jvm.Cond.fieldLink "KindPostman" (53 : Nat) "KindPostman" "waysFor" "[[I") ∈ lw_all := lw_g (lw_at lw_m2 68 rfl) rfl
theorem q451 : (Jvm.Cond.fieldLink "KindPostman" (56 : Nat) "KindPostman" "groups" "[I") ∈ lw_all := lw_g (lw_at lw_m2 69 rfl) rfl
theorem q452 : (Jvm.Cond.fieldLink "KindPostman" (59 : Nat) "KindPostman" "changes" "[I") ∈ lw_all := lw_g (lw_at lw_m2 70 rfl) rfl
theorem q453 : (Jvm.Cond.laysFinal "KindPostman" "KindPostman" "tape" "[B") ∈ lw_all := lw_g (lw_at lw_m2 71 rfl) rfl
theorem q454 : (Jvm.Cond.soleField "KindPostman" "tape") ∈ lw_all := lw_g (lw_at lw_m2 72 rfl) rfl
theorem q455 : (Jvm.Cond.lays "KindPostman" "KindPostman" "taped" "I") ∈ lw_all := lw_g (lw_at lw_m2 73 rfl) rfl
theorem q456 : (Jvm.Cond.soleField "KindPostman" "taped") ∈ lw_all := lw_g (lw_at lw_m2 74 rfl) rfl
theorem q457 : (Jvm.Cond.lays "KindPostman" "KindPostman" "faultKind" "I") ∈ lw_all := lw_g (lw_at lw_m2 75 rfl) rfl
theorem q458 : (Jvm.Cond.soleField "KindPostman" "faultKind") ∈ lw_all := lw_g (lw_at lw_m2 76 rfl) rfl
theorem q459 : (Jvm.Cond.lays "KindPostman" "KindPostman" "faultPlace" "I") ∈ lw_all := lw_g (lw_at lw_m2 77 rfl) rfl
theorem q460 : (Jvm.Cond.soleField "KindPostman" "faultPlace") ∈ lw_all := lw_g (lw_at lw_m2 78 rfl) rfl
theorem q461 : (Jvm.Cond.laysFinal "KindPostman" "KindPostman" "walk" "LKindPostman$Walk;") ∈ lw_all := lw_g (lw_at lw_m2 79 rfl) rfl
theorem q462 : (Jvm.Cond.soleField "KindPostman" "walk") ∈ lw_all := lw_g (lw_at lw_m2 80 rfl) rfl
theorem q463 : (Jvm.Cond.laysFinal "KindPostman" "KindPostman" "kept" "LKindPostman$Walk;") ∈ lw_all := lw_g (lw_at lw_m2 81 rfl) rfl
theorem q464 : (Jvm.Cond.soleField "KindPostman" "kept") ∈ lw_all := lw_g (lw_at lw_m2 82 rfl) rfl
theorem q465 : (Jvm.Cond.laysFinal "KindPostman" "KindPostman" "thought" "LKindPostman$Walk;") ∈ lw_all := lw_g (lw_at lw_m2 83 rfl) rfl
theorem q466 : (Jvm.Cond.soleField "KindPostman" "thought") ∈ lw_all := lw_g (lw_at lw_m2 84 rfl) rfl
theorem q467 : (Jvm.Cond.laysFinal "KindPostman" "KindPostman" "back" "[LKindPostman$Walk;") ∈ lw_all := lw_g (lw_at lw_m2 85 rfl) rfl
theorem q468 : (Jvm.Cond.soleField "KindPostman" "back") ∈ lw_all := lw_g (lw_at lw_m2 86 rfl) rfl
theorem q469 : (Jvm.Cond.lays "KindPostman" "KindPostman" "backMany" "I") ∈ lw_all := lw_g (lw_at lw_m2 87 rfl) rfl
theorem q470 : (Jvm.Cond.soleField "KindPostman" "backMany") ∈ lw_all := lw_g (lw_at lw_m2 88 rfl) rfl
theorem q471 : (Jvm.Cond.lays "KindPostman" "KindPostman" "hasImage" "Z") ∈ lw_all := lw_g (lw_at lw_m2 89 rfl) rfl
theorem q472 : (Jvm.Cond.soleField "KindPostman" "hasImage") ∈ lw_all := lw_g (lw_at lw_m2 90 rfl) rfl
theorem q473 : (Jvm.Cond.laysFinal "KindPostman" "KindPostman" "far" "[[I") ∈ lw_all := lw_g (lw_at lw_m2 91 rfl) rfl
theorem q474 : (Jvm.Cond.soleField "KindPostman" "far") ∈ lw_all := lw_g (lw_at lw_m2 92 rfl) rfl
theorem q475 : (Jvm.Cond.laysFinal "KindPostman" "KindPostman" "walked" "[[I") ∈ lw_all := lw_g (lw_at lw_m2 93 rfl) rfl
theorem q476 : (Jvm.Cond.soleField "KindPostman" "walked") ∈ lw_all := lw_g (lw_at lw_m2 94 rfl) rfl
theorem q477 : (Jvm.Cond.laysFinal "KindPostman" "KindPostman" "goal" "[I") ∈ lw_all := lw_g (lw_at lw_m2 95 rfl) rfl
theorem q478 : (Jvm.Cond.soleField "KindPostman" "goal") ∈ lw_all := lw_g (lw_at lw_m2 96 rfl) rfl
theorem q479 : (Jvm.Cond.laysFinal "KindPostman" "KindPostman" "mostOf" "[I") ∈ lw_all := lw_g (lw_at lw_m2 97 rfl) rfl
theorem q480 : (Jvm.Cond.soleField "KindPostman" "mostOf") ∈ lw_all := lw_g (lw_at lw_m2 98 rfl) rfl
theorem q481 : (Jvm.Cond.laysFinal "KindPostman" "KindPostman" "waysFor" "[[I") ∈ lw_all := lw_g (lw_at lw_m2 99 rfl) rfl
theorem q482 : (Jvm.Cond.soleField "KindPostman" "waysFor") ∈ lw_all := lw_g (lw_at lw_m2 100 rfl) rfl
theorem q483 : (Jvm.Cond.laysFinal "KindPostman" "KindPostman" "groups" "[I") ∈ lw_all := lw_g (lw_at lw_m2 101 rfl) rfl
theorem q484 : (Jvm.Cond.soleField "KindPostman" "groups") ∈ lw_all := lw_g (lw_at lw_m2 102 rfl) rfl
theorem q485 : (Jvm.Cond.laysFinal "KindPostman" "KindPostman" "changes" "[I") ∈ lw_all := lw_g (lw_at lw_m2 103 rfl) rfl
theorem q486 : (Jvm.Cond.soleField "KindPostman" "changes") ∈ lw_all := lw_g (lw_at lw_m2 104 rfl) rfl
theorem q487 : (Jvm.Cond.superclass "KindPostman" "java/lang/Object") ∈ lw_all := lw_g (lw_at lw_m2 105 rfl) rfl
theorem q489 : (Jvm.Cond.instanceMethod ({ cls := "KindPostman", name := "feed", desc := "(IIIII)I" } : Jvm.MethodName)) ∈ lw_all := lw_g (lw_at lw_m2 107 rfl) rfl
theorem q490 : (Jvm.Cond.selects "KindPostman" ({ cls := "KindPostman", name := "feed", desc := "(IIIII)I" } : Jvm.MethodName) ({ cls := "KindPostman", name := "feed", desc := "(IIIII)I" } : Jvm.MethodName)) ∈ lw_all := lw_g (lw_at lw_m2 108 rfl) rfl
theorem q491 : (Jvm.Cond.code ({ cls := "KindPostman", name := "feed", desc := "(IIIII)I" } : Jvm.MethodName) prog_1_method_4_code (6 : Nat) (Option.some Jvm.ClassFile.FieldType.int)) ∈ lw_all := lw_g (lw_at lw_m2 109 rfl) rfl
theorem q492 : (Jvm.Cond.methodLink "KindPostman" (74 : Nat) ({ cls := "KindPostman", name := "word", desc := "(I)V" } : Jvm.MethodName)) ∈ lw_all := lw_g (lw_at lw_m2 110 rfl) rfl
theorem q493 : (Jvm.Cond.privateMethod ({ cls := "KindPostman", name := "word", desc := "(I)V" } : Jvm.MethodName)) ∈ lw_tbl := lw_at lw_m2 111 rfl
theorem q494 : (Jvm.Cond.instanceMethod ({ cls := "KindPostman", name := "word", desc := "(I)V" } : Jvm.MethodName)) ∈ lw_all := lw_g (lw_at lw_m2 112 rfl) rfl
theorem q495 : (Jvm.Cond.code ({ cls := "KindPostman", name := "word", desc := "(I)V" } : Jvm.MethodName) prog_1_method_5_code (3 : Nat) (Option.none : Option Jvm.ClassFile.FieldType)) ∈ lw_all := lw_g (lw_at lw_m2 113 rfl) rfl
theorem q497 : (Jvm.Cond.instanceMethod ({ cls := "KindPostman", name := "end", desc := "(I)Z" } : Jvm.MethodName)) ∈ lw_all := lw_g (lw_at lw_m2 115 rfl) rfl
theorem q498 : (Jvm.Cond.selects "KindPostman" ({ cls := "KindPostman", name := "end", desc := "(I)Z" } : Jvm.MethodName) ({ cls := "KindPostman", name := "end", desc := "(I)Z" } : Jvm.MethodName)) ∈ lw_all := lw_g (lw_at lw_m2 116 rfl) rfl
theorem q499 : (Jvm.Cond.code ({ cls := "KindPostman", name := "end", desc := "(I)Z" } : Jvm.MethodName) prog_1_method_6_code (2 : Nat) (Option.some Jvm.ClassFile.FieldType.boolean)) ∈ lw_all := lw_g (lw_at lw_m2 117 rfl) rfl
theorem q500 : (Jvm.Cond.methodLink "KindPostman" (78 : Nat) ({ cls := "KindPostman", name := "isIn", desc := "(III)Z" } : Jvm.MethodName)) ∈ lw_all := lw_g (lw_at lw_m2 118 rfl) rfl
theorem q501 : (Jvm.Cond.static ({ cls := "KindPostman", name := "isIn", desc := "(III)Z" } : Jvm.MethodName)) ∈ lw_all := lw_g (lw_at lw_m2 119 rfl) rfl
theorem q502 : (Jvm.Cond.code ({ cls := "KindPostman", name := "isIn", desc := "(III)Z" } : Jvm.MethodName) prog_1_method_2_code (3 : Nat) (Option.some Jvm.ClassFile.FieldType.boolean)) ∈ lw_all := lw_g (lw_at lw_m2 120 rfl) rfl
theorem q504 : (Jvm.Cond.instanceMethod ({ cls := "KindPostman", name := "text", desc := "(I)I" } : Jvm.MethodName)) ∈ lw_all := lw_g (lw_at lw_m2 122 rfl) rfl
theorem q505 : (Jvm.Cond.selects "KindPostman" ({ cls := "KindPostman", name := "text", desc := "(I)I" } : Jvm.MethodName) ({ cls := "KindPostman", name := "text", desc := "(I)I" } : Jvm.MethodName)) ∈ lw_all := lw_g (lw_at lw_m2 123 rfl) rfl
theorem q506 : (Jvm.Cond.codeWith ({ cls := "KindPostman", name := "text", desc := "(I)I" } : Jvm.MethodName) prog_1_method_8_code (5 : Nat) (Option.some Jvm.ClassFile.FieldType.int) [((10 : Nat), (29 : Nat), (36 : Nat), (136 : Nat)), ((10 : Nat), (29 : Nat), (62 : Nat), (0 : Nat)), ((36 : Nat), (55 : Nat), (62 : Nat), (0 : Nat)), ((62 : Nat), (64 : Nat), (62 : Nat), (0 : Nat))]) ∈ lw_all := lw_g (lw_at lw_m2 124 rfl) rfl
theorem q507 : (Jvm.Cond.classLink "KindPostman" (136 : Nat) "KindPostman$Fault") ∈ lw_all := lw_g (lw_at lw_m2 125 rfl) rfl
theorem q508 : (Jvm.Cond.methodLink "KindPostman" (132 : Nat) ({ cls := "KindPostman", name := "reads", desc := "(I)I" } : Jvm.MethodName)) ∈ lw_all := lw_g (lw_at lw_m2 126 rfl) rfl
theorem q509 : (Jvm.Cond.privateMethod ({ cls := "KindPostman", name := "reads", desc := "(I)I" } : Jvm.MethodName)) ∈ lw_tbl := lw_at lw_m2 127 rfl
theorem q510 : (Jvm.Cond.instanceMethod ({ cls := "KindPostman", name := "reads", desc := "(I)I" } : Jvm.MethodName)) ∈ lw_all := lw_g (lw_at lw_m2 128 rfl) rfl
theorem q511 : (Jvm.Cond.code ({ cls := "KindPostman", name := "reads", desc := "(I)I" } : Jvm.MethodName) prog_1_method_7_code (3 : Nat) (Option.some Jvm.ClassFile.FieldType.int)) ∈ lw_all := lw_g (lw_at lw_m2 129 rfl) rfl
theorem q512 : (Jvm.Cond.classLink "KindPostman" (82 : Nat) "KindPostman$Reader") ∈ lw_all := lw_g (lw_at lw_m2 130 rfl) rfl
theorem q514 : (Jvm.Cond.methodLink "KindPostman" (84 : Nat) ({ cls := "KindPostman$Reader", name := "<init>", desc := "(LKindPostman;I)V" } : Jvm.MethodName)) ∈ lw_all := lw_g (lw_at lw_m2 132 rfl) rfl
theorem q526 : (Jvm.Cond.fieldLinkNest "KindPostman" (115 : Nat) "KindPostman$Reader" "told" "I" "KindPostman") ∈ lw_tbl := lw_at lw_m2 144 rfl
theorem q550 : (Jvm.Cond.methodLink "KindPostman" (87 : Nat) ({ cls := "KindPostman$Reader", name := "law", desc := "()Ljava/util/ArrayList;" } : Jvm.MethodName)) ∈ lw_all := lw_g (lw_at lw_m2 168 rfl) rfl
theorem q719 : (Jvm.Cond.fieldLinkNest "KindPostman" (138 : Nat) "KindPostman$Fault" "kind" "I" "KindPostman") ∈ lw_tbl := lw_at lw_m3 97 rfl
theorem q721 : (Jvm.Cond.fieldLinkNest "KindPostman" (141 : Nat) "KindPostman$Fault" "place" "I" "KindPostman") ∈ lw_tbl := lw_at lw_m3 99 rfl
theorem q878 : (Jvm.Cond.selects "KindPostman" ({ cls := "java/lang/Object", name := "getClass", desc := "()Ljava/lang/Class;" } : Jvm.MethodName) ({ cls := "java/lang/Object", name := "getClass", desc := "()Ljava/lang/Class;" } : Jvm.MethodName)) ∈ lw_all := lw_g (lw_at lw_m4 16 rfl) rfl
theorem q909 : (Jvm.Cond.methodLink "KindPostman" (94 : Nat) ({ cls := "java/util/ArrayList", name := "size", desc := "()I" } : Jvm.MethodName)) ∈ lw_all := lw_g (lw_at lw_m4 47 rfl) rfl
theorem q910 : (Jvm.Cond.methodLink "KindPostman" (100 : Nat) ({ cls := "KindPostman$Reader", name := "post", desc := "()Ljava/util/ArrayList;" } : Jvm.MethodName)) ∈ lw_all := lw_g (lw_at lw_m4 48 rfl) rfl
theorem q941 : (Jvm.Cond.methodLink "KindPostman" (105 : Nat) ({ cls := "KindPostman", name := "forgets", desc := "()Z" } : Jvm.MethodName)) ∈ lw_all := lw_g (lw_at lw_m4 79 rfl) rfl
theorem q942 : (Jvm.Cond.privateMethod ({ cls := "KindPostman", name := "forgets", desc := "()Z" } : Jvm.MethodName)) ∈ lw_tbl := lw_at lw_m4 80 rfl
theorem q943 : (Jvm.Cond.instanceMethod ({ cls := "KindPostman", name := "forgets", desc := "()Z" } : Jvm.MethodName)) ∈ lw_all := lw_g (lw_at lw_m4 81 rfl) rfl
theorem q944 : (Jvm.Cond.code ({ cls := "KindPostman", name := "forgets", desc := "()Z" } : Jvm.MethodName) prog_1_method_10_code (1 : Nat) (Option.some Jvm.ClassFile.FieldType.boolean)) ∈ lw_all := lw_g (lw_at lw_m4 82 rfl) rfl
theorem q945 : (Jvm.Cond.methodLink "KindPostman" (109 : Nat) ({ cls := "KindPostman$Reader", name := "round", desc := "()[I" } : Jvm.MethodName)) ∈ lw_all := lw_g (lw_at lw_m4 83 rfl) rfl
theorem q949 : (Jvm.Cond.methodLink "KindPostman" (121 : Nat) ({ cls := "KindPostman$Reader", name := "streets", desc := "()[I" } : Jvm.MethodName)) ∈ lw_all := lw_g (lw_at lw_m4 87 rfl) rfl
theorem q959 : (Jvm.Cond.instanceMethod ({ cls := "KindPostman", name := "fault", desc := "(I)I" } : Jvm.MethodName)) ∈ lw_all := lw_g (lw_at lw_m4 97 rfl) rfl
theorem q960 : (Jvm.Cond.selects "KindPostman" ({ cls := "KindPostman", name := "fault", desc := "(I)I" } : Jvm.MethodName) ({ cls := "KindPostman", name := "fault", desc := "(I)I" } : Jvm.MethodName)) ∈ lw_all := lw_g (lw_at lw_m4 98 rfl) rfl
theorem q961 : (Jvm.Cond.code ({ cls := "KindPostman", name := "fault", desc := "(I)I" } : Jvm.MethodName) prog_1_method_9_code (2 : Nat) (Option.some Jvm.ClassFile.FieldType.int)) ∈ lw_all := lw_g (lw_at lw_m4 99 rfl) rfl
theorem q963 : (Jvm.Cond.instanceMethod ({ cls := "KindPostman", name := "undo", desc := "()Z" } : Jvm.MethodName)) ∈ lw_all := lw_g (lw_at lw_m4 101 rfl) rfl
theorem q964 : (Jvm.Cond.selects "KindPostman" ({ cls := "KindPostman", name := "undo", desc := "()Z" } : Jvm.MethodName) ({ cls := "KindPostman", name := "undo", desc := "()Z" } : Jvm.MethodName)) ∈ lw_all := lw_g (lw_at lw_m4 102 rfl) rfl
theorem q965 : (Jvm.Cond.code ({ cls := "KindPostman", name := "undo", desc := "()Z" } : Jvm.MethodName) prog_1_method_12_code (1 : Nat) (Option.some Jvm.ClassFile.FieldType.boolean)) ∈ lw_all := lw_g (lw_at lw_m4 103 rfl) rfl
theorem q966 : (Jvm.Cond.methodLink "KindPostman" (147 : Nat) ({ cls := "KindPostman$Walk", name := "moves", desc := "(LKindPostman$Walk;)V" } : Jvm.MethodName)) ∈ lw_all := lw_g (lw_at lw_m4 104 rfl) rfl
theorem q991 : (Jvm.Cond.instanceMethod ({ cls := "KindPostman", name := "state", desc := "(I)I" } : Jvm.MethodName)) ∈ lw_all := lw_g (lw_at lw_m4 129 rfl) rfl
theorem q992 : (Jvm.Cond.selects "KindPostman" ({ cls := "KindPostman", name := "state", desc := "(I)I" } : Jvm.MethodName) ({ cls := "KindPostman", name := "state", desc := "(I)I" } : Jvm.MethodName)) ∈ lw_all := lw_g (lw_at lw_m4 130 rfl) rfl
theorem q993 : (Jvm.Cond.code ({ cls := "KindPostman", name := "state", desc := "(I)I" } : Jvm.MethodName) prog_1_method_16_code (3 : Nat) (Option.some Jvm.ClassFile.FieldType.int)) ∈ lw_all := lw_g (lw_at lw_m4 131 rfl) rfl
theorem q995 : (Jvm.Cond.instanceMethod ({ cls := "KindPostman", name := "door", desc := "(III)I" } : Jvm.MethodName)) ∈ lw_all := lw_g (lw_at lw_m4 133 rfl) rfl
theorem q996 : (Jvm.Cond.selects "KindPostman" ({ cls := "KindPostman", name := "door", desc := "(III)I" } : Jvm.MethodName) ({ cls := "KindPostman", name := "door", desc := "(III)I" } : Jvm.MethodName)) ∈ lw_all := lw_g (lw_at lw_m4 134 rfl) rfl
theorem q997 : (Jvm.Cond.code ({ cls := "KindPostman", name := "door", desc := "(III)I" } : Jvm.MethodName) prog_1_method_17_code (4 : Nat) (Option.some Jvm.ClassFile.FieldType.int)) ∈ lw_all := lw_g (lw_at lw_m4 135 rfl) rfl
theorem q998 : (Jvm.Cond.methodLink "KindPostman" (161 : Nat) ({ cls := "KindPostman", name := "door", desc := "(I)LKindPostman$Door;" } : Jvm.MethodName)) ∈ lw_all := lw_g (lw_at lw_m4 136 rfl) rfl
theorem q999 : (Jvm.Cond.privateMethod ({ cls := "KindPostman", name := "door", desc := "(I)LKindPostman$Door;" } : Jvm.MethodName)) ∈ lw_tbl := lw_at lw_m4 137 rfl
theorem q1000 : (Jvm.Cond.instanceMethod ({ cls := "KindPostman", name := "door", desc := "(I)LKindPostman$Door;" } : Jvm.MethodName)) ∈ lw_all := lw_g (lw_at lw_m4 138 rfl) rfl
theorem q1001 : (Jvm.Cond.code ({ cls := "KindPostman", name := "door", desc := "(I)LKindPostman$Door;" } : Jvm.MethodName) prog_1_method_15_code (2 : Nat) (Option.some (Jvm.ClassFile.FieldType.object "KindPostman$Door"))) ∈ lw_all := lw_g (lw_at lw_m4 139 rfl) rfl
theorem q1002 : (Jvm.Cond.methodLink "KindPostman" (164 : Nat) ({ cls := "KindPostman$Door", name := "begins", desc := "(III)V" } : Jvm.MethodName)) ∈ lw_all := lw_g (lw_at lw_m4 140 rfl) rfl
theorem q1004 : (Jvm.Cond.instanceMethod ({ cls := "KindPostman", name := "set", desc := "(III)Z" } : Jvm.MethodName)) ∈ lw_all := lw_g (lw_at lw_m4 142 rfl) rfl
theorem q1005 : (Jvm.Cond.selects "KindPostman" ({ cls := "KindPostman", name := "set", desc := "(III)Z" } : Jvm.MethodName) ({ cls := "KindPostman", name := "set", desc := "(III)Z" } : Jvm.MethodName)) ∈ lw_all := lw_g (lw_at lw_m4 143 rfl) rfl
theorem q1006 : (Jvm.Cond.code ({ cls := "KindPostman", name := "set", desc := "(III)Z" } : Jvm.MethodName) prog_1_method_19_code (4 : Nat) (Option.some Jvm.ClassFile.FieldType.boolean)) ∈ lw_all := lw_g (lw_at lw_m4 144 rfl) rfl
theorem q1007 : (Jvm.Cond.methodLink "KindPostman" (174 : Nat) ({ cls := "KindPostman", name := "canSet", desc := "(III)Z" } : Jvm.MethodName)) ∈ lw_all := lw_g (lw_at lw_m4 145 rfl) rfl
theorem q1008 : (Jvm.Cond.privateMethod ({ cls := "KindPostman", name := "canSet", desc := "(III)Z" } : Jvm.MethodName)) ∈ lw_tbl := lw_at lw_m4 146 rfl
theorem q1009 : (Jvm.Cond.instanceMethod ({ cls := "KindPostman", name := "canSet", desc := "(III)Z" } : Jvm.MethodName)) ∈ lw_all := lw_g (lw_at lw_m4 147 rfl) rfl
theorem q1010 : (Jvm.Cond.code ({ cls := "KindPostman", name := "canSet", desc := "(III)Z" } : Jvm.MethodName) prog_1_method_18_code (4 : Nat) (Option.some Jvm.ClassFile.FieldType.boolean)) ∈ lw_all := lw_g (lw_at lw_m4 148 rfl) rfl
theorem q1011 : (Jvm.Cond.methodLink "KindPostman" (170 : Nat) ({ cls := "KindPostman", name := "isDoor", desc := "(I)Z" } : Jvm.MethodName)) ∈ lw_all := lw_g (lw_at lw_m4 149 rfl) rfl
theorem q1012 : (Jvm.Cond.privateMethod ({ cls := "KindPostman", name := "isDoor", desc := "(I)Z" } : Jvm.MethodName)) ∈ lw_tbl := lw_at lw_m4 150 rfl
theorem q1013 : (Jvm.Cond.instanceMethod ({ cls := "KindPostman", name := "isDoor", desc := "(I)Z" } : Jvm.MethodName)) ∈ lw_all := lw_g (lw_at lw_m4 151 rfl) rfl
theorem q1014 : (Jvm.Cond.code ({ cls := "KindPostman", name := "isDoor", desc := "(I)Z" } : Jvm.MethodName) prog_1_method_13_code (2 : Nat) (Option.some Jvm.ClassFile.FieldType.boolean)) ∈ lw_all := lw_g (lw_at lw_m4 152 rfl) rfl
theorem q1016 : (Jvm.Cond.instanceMethod ({ cls := "KindPostman", name := "post", desc := "(III)I" } : Jvm.MethodName)) ∈ lw_all := lw_g (lw_at lw_m4 154 rfl) rfl
theorem q1017 : (Jvm.Cond.selects "KindPostman" ({ cls := "KindPostman", name := "post", desc := "(III)I" } : Jvm.MethodName) ({ cls := "KindPostman", name := "post", desc := "(III)I" } : Jvm.MethodName)) ∈ lw_all := lw_g (lw_at lw_m4 155 rfl) rfl
theorem q1018 : (Jvm.Cond.code ({ cls := "KindPostman", name := "post", desc := "(III)I" } : Jvm.MethodName) prog_1_method_20_code (4 : Nat) (Option.some Jvm.ClassFile.FieldType.int)) ∈ lw_all := lw_g (lw_at lw_m4 156 rfl) rfl
theorem q1019 : (Jvm.Cond.methodLink "KindPostman" (192 : Nat) ({ cls := "KindPostman", name := "isKind", desc := "(I)Z" } : Jvm.MethodName)) ∈ lw_all := lw_g (lw_at lw_m4 157 rfl) rfl
theorem q1020 : (Jvm.Cond.static ({ cls := "KindPostman", name := "isKind", desc := "(I)Z" } : Jvm.MethodName)) ∈ lw_all := lw_g (lw_at lw_m4 158 rfl) rfl
theorem q1021 : (Jvm.Cond.code ({ cls := "KindPostman", name := "isKind", desc := "(I)Z" } : Jvm.MethodName) prog_1_method_14_code (1 : Nat) (Option.some Jvm.ClassFile.FieldType.boolean)) ∈ lw_all := lw_g (lw_at lw_m4 159 rfl) rfl
theorem q1022 : (Jvm.Cond.methodLink "KindPostman" (204 : Nat) ({ cls := "KindPostman", name := "remembers", desc := "()V" } : Jvm.MethodName)) ∈ lw_all := lw_g (lw_at lw_m4 160 rfl) rfl
theorem q1023 : (Jvm.Cond.privateMethod ({ cls := "KindPostman", name := "remembers", desc := "()V" } : Jvm.MethodName)) ∈ lw_tbl := lw_at lw_m4 161 rfl
theorem q1024 : (Jvm.Cond.instanceMethod ({ cls := "KindPostman", name := "remembers", desc := "()V" } : Jvm.MethodName)) ∈ lw_all := lw_g (lw_at lw_m4 162 rfl) rfl
theorem q1025 : (Jvm.Cond.code ({ cls := "KindPostman", name := "remembers", desc := "()V" } : Jvm.MethodName) prog_1_method_11_code (3 : Nat) (Option.none : Option Jvm.ClassFile.FieldType)) ∈ lw_all := lw_g (lw_at lw_m4 163 rfl) rfl
theorem q1026 : (Jvm.Cond.methodLink "KindPostman" (207 : Nat) ({ cls := "KindPostman$Walk", name := "posts", desc := "(III)Z" } : Jvm.MethodName)) ∈ lw_all := lw_g (lw_at lw_m4 164 rfl) rfl
theorem q1040 : (Jvm.Cond.instanceMethod ({ cls := "KindPostman", name := "bring", desc := "(I)I" } : Jvm.MethodName)) ∈ lw_all := lw_g (lw_at lw_m4 178 rfl) rfl
theorem q1041 : (Jvm.Cond.selects "KindPostman" ({ cls := "KindPostman", name := "bring", desc := "(I)I" } : Jvm.MethodName) ({ cls := "KindPostman", name := "bring", desc := "(I)I" } : Jvm.MethodName)) ∈ lw_all := lw_g (lw_at lw_m4 179 rfl) rfl
theorem q1042 : (Jvm.Cond.code ({ cls := "KindPostman", name := "bring", desc := "(I)I" } : Jvm.MethodName) prog_1_method_21_code (3 : Nat) (Option.some Jvm.ClassFile.FieldType.int)) ∈ lw_all := lw_g (lw_at lw_m4 180 rfl) rfl
theorem q1043 : (Jvm.Cond.methodLink "KindPostman" (213 : Nat) ({ cls := "KindPostman$Bag", name := "place", desc := "(I)I" } : Jvm.MethodName)) ∈ lw_all := lw_g (lw_at lw_m4 181 rfl) rfl
theorem q1047 : (Jvm.Cond.methodLink "KindPostman" (215 : Nat) ({ cls := "KindPostman$Walk", name := "brings", desc := "(I)I" } : Jvm.MethodName)) ∈ lw_all := lw_g (lw_at lw_m4 185 rfl) rfl
theorem q1101 : (Jvm.Cond.static ({ cls := "KindPostman", name := "held", desc := "(III)I" } : Jvm.MethodName)) ∈ lw_all := lw_g (lw_at lw_m4 239 rfl) rfl
theorem q1102 : (Jvm.Cond.code ({ cls := "KindPostman", name := "held", desc := "(III)I" } : Jvm.MethodName) prog_1_method_3_code (3 : Nat) (Option.some Jvm.ClassFile.FieldType.int)) ∈ lw_all := lw_g (lw_at lw_m5 0 rfl) rfl
theorem q1103 : (Jvm.Cond.methodLink "KindPostman" (62 : Nat) ({ cls := "java/lang/Math", name := "min", desc := "(II)I" } : Jvm.MethodName)) ∈ lw_all := lw_g (lw_at lw_m5 1 rfl) rfl
theorem q1104 : (Jvm.Cond.methodLink "KindPostman" (68 : Nat) ({ cls := "java/lang/Math", name := "max", desc := "(II)I" } : Jvm.MethodName)) ∈ lw_all := lw_g (lw_at lw_m5 2 rfl) rfl
theorem q1135 : (Jvm.Cond.instanceMethod ({ cls := "KindPostman", name := "rain", desc := "(I)Z" } : Jvm.MethodName)) ∈ lw_all := lw_g (lw_at lw_m5 33 rfl) rfl
theorem q1136 : (Jvm.Cond.selects "KindPostman" ({ cls := "KindPostman", name := "rain", desc := "(I)Z" } : Jvm.MethodName) ({ cls := "KindPostman", name := "rain", desc := "(I)Z" } : Jvm.MethodName)) ∈ lw_all := lw_g (lw_at lw_m5 34 rfl) rfl
theorem q1137 : (Jvm.Cond.code ({ cls := "KindPostman", name := "rain", desc := "(I)Z" } : Jvm.MethodName) prog_1_method_22_code (2 : Nat) (Option.some Jvm.ClassFile.FieldType.boolean)) ∈ lw_all := lw_g (lw_at lw_m5 35 rfl) rfl
theorem q1139 : (Jvm.Cond.instanceMethod ({ cls := "KindPostman", name := "days", desc := "(I)I" } : Jvm.MethodName)) ∈ lw_all := lw_g (lw_at lw_m5 37 rfl) rfl
theorem q1140 : (Jvm.Cond.selects "KindPostman" ({ cls := "KindPostman", name := "days", desc := "(I)I" } : Jvm.MethodName) ({ cls := "KindPostman", name := "days", desc := "(I)I" } : Jvm.MethodName)) ∈ lw_all := lw_g (lw_at lw_m5 38 rfl) rfl
theorem q1141 : (Jvm.Cond.code ({ cls := "KindPostman", name := "days", desc := "(I)I" } : Jvm.MethodName) prog_1_method_23_code (4 : Nat) (Option.some Jvm.ClassFile.FieldType.int)) ∈ lw_all := lw_g (lw_at lw_m5 39 rfl) rfl
theorem q1142 : (Jvm.Cond.methodLink "KindPostman" (224 : Nat) ({ cls := "KindPostman$Walk", name := "passes", desc := "()I" } : Jvm.MethodName)) ∈ lw_all := lw_g (lw_at lw_m5 40 rfl) rfl
theorem q1169 : (Jvm.Cond.instanceMethod ({ cls := "KindPostman", name := "of", desc := "(II)I" } : Jvm.MethodName)) ∈ lw_all := lw_g (lw_at lw_m5 67 rfl) rfl
theorem q1170 : (Jvm.Cond.selects "KindPostman" ({ cls := "KindPostman", name := "of", desc := "(II)I" } : Jvm.MethodName) ({ cls := "KindPostman", name := "of", desc := "(II)I" } : Jvm.MethodName)) ∈ lw_all := lw_g (lw_at lw_m5 68 rfl) rfl
theorem q1171 : (Jvm.Cond.code ({ cls := "KindPostman", name := "of", desc := "(II)I" } : Jvm.MethodName) prog_1_method_25_code (4 : Nat) (Option.some Jvm.ClassFile.FieldType.int)) ∈ lw_all := lw_g (lw_at lw_m5 69 rfl) rfl
theorem q1172 : (Jvm.Cond.methodLink "KindPostman" (230 : Nat) ({ cls := "KindPostman$Bag", name := "forDoor", desc := "(I)I" } : Jvm.MethodName)) ∈ lw_all := lw_g (lw_at lw_m5 70 rfl) rfl
theorem q1176 : (Jvm.Cond.methodLink "KindPostman" (233 : Nat) ({ cls := "KindPostman", name := "street", desc := "(II)I" } : Jvm.MethodName)) ∈ lw_all := lw_g (lw_at lw_m5 74 rfl) rfl
theorem q1177 : (Jvm.Cond.privateMethod ({ cls := "KindPostman", name := "street", desc := "(II)I" } : Jvm.MethodName)) ∈ lw_tbl := lw_at lw_m5 75 rfl
theorem q1178 : (Jvm.Cond.instanceMethod ({ cls := "KindPostman", name := "street", desc := "(II)I" } : Jvm.MethodName)) ∈ lw_all := lw_g (lw_at lw_m5 76 rfl) rfl
theorem q1179 : (Jvm.Cond.code ({ cls := "KindPostman", name := "street", desc := "(II)I" } : Jvm.MethodName) prog_1_method_24_code (3 : Nat) (Option.some Jvm.ClassFile.FieldType.int)) ∈ lw_all := lw_g (lw_at lw_m5 77 rfl) rfl
theorem q1181 : (Jvm.Cond.instanceMethod ({ cls := "KindPostman", name := "letter", desc := "(II)I" } : Jvm.MethodName)) ∈ lw_all := lw_g (lw_at lw_m5 79 rfl) rfl
theorem q1182 : (Jvm.Cond.selects "KindPostman" ({ cls := "KindPostman", name := "letter", desc := "(II)I" } : Jvm.MethodName) ({ cls := "KindPostman", name := "letter", desc := "(II)I" } : Jvm.MethodName)) ∈ lw_all := lw_g (lw_at lw_m5 80 rfl) rfl
theorem q1183 : (Jvm.Cond.code ({ cls := "KindPostman", name := "letter", desc := "(II)I" } : Jvm.MethodName) prog_1_method_26_code (4 : Nat) (Option.some Jvm.ClassFile.FieldType.int)) ∈ lw_all := lw_g (lw_at lw_m5 81 rfl) rfl
theorem q1184 : (Jvm.Cond.methodLink "KindPostman" (253 : Nat) ({ cls := "KindPostman$Walk", name := "opens", desc := "(LKindPostman$Letter;)I" } : Jvm.MethodName)) ∈ lw_all := lw_g (lw_at lw_m5 82 rfl) rfl
theorem q1185 : (Jvm.Cond.methodLink "KindPostman" (257 : Nat) ({ cls := "KindPostman$Walk", name := "gives", desc := "(LKindPostman$Letter;)I" } : Jvm.MethodName)) ∈ lw_all := lw_g (lw_at lw_m5 83 rfl) rfl
theorem q1186 : (Jvm.Cond.methodLink "KindPostman" (260 : Nat) ({ cls := "KindPostman$Walk", name := "tires", desc := "(LKindPostman$Letter;)I" } : Jvm.MethodName)) ∈ lw_all := lw_g (lw_at lw_m5 84 rfl) rfl
theorem q1188 : (Jvm.Cond.instanceMethod ({ cls := "KindPostman", name := "given", desc := "(I)I" } : Jvm.MethodName)) ∈ lw_all := lw_g (lw_at lw_m5 86 rfl) rfl
theorem q1189 : (Jvm.Cond.selects "KindPostman" ({ cls := "KindPostman", name := "given", desc := "(I)I" } : Jvm.MethodName) ({ cls := "KindPostman", name := "given", desc := "(I)I" } : Jvm.MethodName)) ∈ lw_all := lw_g (lw_at lw_m5 87 rfl) rfl
theorem q1190 : (Jvm.Cond.code ({ cls := "KindPostman", name := "given", desc := "(I)I" } : Jvm.MethodName) prog_1_method_27_code (2 : Nat) (Option.some Jvm.ClassFile.FieldType.int)) ∈ lw_all := lw_g (lw_at lw_m5 88 rfl) rfl
theorem q1192 : (Jvm.Cond.instanceMethod ({ cls := "KindPostman", name := "book", desc := "(II)I" } : Jvm.MethodName)) ∈ lw_all := lw_g (lw_at lw_m5 90 rfl) rfl
theorem q1193 : (Jvm.Cond.selects "KindPostman" ({ cls := "KindPostman", name := "book", desc := "(II)I" } : Jvm.MethodName) ({ cls := "KindPostman", name := "book", desc := "(II)I" } : Jvm.MethodName)) ∈ lw_all := lw_g (lw_at lw_m5 91 rfl) rfl
theorem q1194 : (Jvm.Cond.code ({ cls := "KindPostman", name := "book", desc := "(II)I" } : Jvm.MethodName) prog_1_method_28_code (3 : Nat) (Option.some Jvm.ClassFile.FieldType.int)) ∈ lw_all := lw_g (lw_at lw_m5 92 rfl) rfl
theorem q1196 : (Jvm.Cond.instanceMethod ({ cls := "KindPostman", name := "goes", desc := "(II)I" } : Jvm.MethodName)) ∈ lw_all := lw_g (lw_at lw_m5 94 rfl) rfl
theorem q1197 : (Jvm.Cond.selects "KindPostman" ({ cls := "KindPostman", name := "goes", desc := "(II)I" } : Jvm.MethodName) ({ cls := "KindPostman", name := "goes", desc := "(II)I" } : Jvm.MethodName)) ∈ lw_all := lw_g (lw_at lw_m5 95 rfl) rfl
theorem q1198 : (Jvm.Cond.code ({ cls := "KindPostman", name := "goes", desc := "(II)I" } : Jvm.MethodName) prog_1_method_29_code (4 : Nat) (Option.some Jvm.ClassFile.FieldType.int)) ∈ lw_all := lw_g (lw_at lw_m5 96 rfl) rfl
theorem q1199 : (Jvm.Cond.methodLink "KindPostman" (272 : Nat) ({ cls := "KindPostman$Walk", name := "thinks", desc := "(LKindPostman$Walk;)V" } : Jvm.MethodName)) ∈ lw_all := lw_g (lw_at lw_m5 97 rfl) rfl
theorem q1205 : (Jvm.Cond.instanceMethod ({ cls := "KindPostman", name := "shortest", desc := "(II)I" } : Jvm.MethodName)) ∈ lw_all := lw_g (lw_at lw_m5 103 rfl) rfl
theorem q1206 : (Jvm.Cond.selects "KindPostman" ({ cls := "KindPostman", name := "shortest", desc := "(II)I" } : Jvm.MethodName) ({ cls := "KindPostman", name := "shortest", desc := "(II)I" } : Jvm.MethodName)) ∈ lw_all := lw_g (lw_at lw_m5 104 rfl) rfl
theorem q1207 : (Jvm.Cond.code ({ cls := "KindPostman", name := "shortest", desc := "(II)I" } : Jvm.MethodName) prog_1_method_33_code (7 : Nat) (Option.some Jvm.ClassFile.FieldType.int)) ∈ lw_all := lw_g (lw_at lw_m5 105 rfl) rfl
theorem q1208 : (Jvm.Cond.methodLink "KindPostman" (279 : Nat) ({ cls := "KindPostman", name := "laysGoals", desc := "(I)I" } : Jvm.MethodName)) ∈ lw_all := lw_g (lw_at lw_m5 106 rfl) rfl
theorem q1209 : (Jvm.Cond.privateMethod ({ cls := "KindPostman", name := "laysGoals", desc := "(I)I" } : Jvm.MethodName)) ∈ lw_tbl := lw_at lw_m5 107 rfl
theorem q1210 : (Jvm.Cond.instanceMethod ({ cls := "KindPostman", name := "laysGoals", desc := "(I)I" } : Jvm.MethodName)) ∈ lw_all := lw_g (lw_at lw_m5 108 rfl) rfl
theorem q1211 : (Jvm.Cond.code ({ cls := "KindPostman", name := "laysGoals", desc := "(I)I" } : Jvm.MethodName) prog_1_method_31_code (4 : Nat) (Option.some Jvm.ClassFile.FieldType.int)) ∈ lw_all := lw_g (lw_at lw_m5 109 rfl) rfl
theorem q1212 : (Jvm.Cond.methodLink "KindPostman" (282 : Nat) ({ cls := "KindPostman", name := "laysFar", desc := "()V" } : Jvm.MethodName)) ∈ lw_all := lw_g (lw_at lw_m5 110 rfl) rfl
theorem q1213 : (Jvm.Cond.privateMethod ({ cls := "KindPostman", name := "laysFar", desc := "()V" } : Jvm.MethodName)) ∈ lw_tbl := lw_at lw_m5 111 rfl
theorem q1214 : (Jvm.Cond.instanceMethod ({ cls := "KindPostman", name := "laysFar", desc := "()V" } : Jvm.MethodName)) ∈ lw_all := lw_g (lw_at lw_m5 112 rfl) rfl
theorem q1215 : (Jvm.Cond.code ({ cls := "KindPostman", name := "laysFar", desc := "()V" } : Jvm.MethodName) prog_1_method_30_code (4 : Nat) (Option.none : Option Jvm.ClassFile.FieldType)) ∈ lw_all := lw_g (lw_at lw_m5 113 rfl) rfl
theorem q1216 : (Jvm.Cond.constant "KindPostman" (278 : Nat) (100000000 : Int32)) ∈ lw_all := lw_g (lw_at lw_m5 114 rfl) rfl
theorem q1217 : (Jvm.Cond.methodLink "KindPostman" (285 : Nat) ({ cls := "KindPostman", name := "laysWalks", desc := "(II)V" } : Jvm.MethodName)) ∈ lw_all := lw_g (lw_at lw_m5 115 rfl) rfl
theorem q1218 : (Jvm.Cond.privateMethod ({ cls := "KindPostman", name := "laysWalks", desc := "(II)V" } : Jvm.MethodName)) ∈ lw_tbl := lw_at lw_m5 116 rfl
theorem q1219 : (Jvm.Cond.instanceMethod ({ cls := "KindPostman", name := "laysWalks", desc := "(II)V" } : Jvm.MethodName)) ∈ lw_all := lw_g (lw_at lw_m5 117 rfl) rfl
theorem q1220 : (Jvm.Cond.code ({ cls := "KindPostman", name := "laysWalks", desc := "(II)V" } : Jvm.MethodName) prog_1_method_32_code (7 : Nat) (Option.none : Option Jvm.ClassFile.FieldType)) ∈ lw_all := lw_g (lw_at lw_m5 118 rfl) rfl
theorem q1222 : (Jvm.Cond.instanceMethod ({ cls := "KindPostman", name := "box", desc := "(I)I" } : Jvm.MethodName)) ∈ lw_all := lw_g (lw_at lw_m5 120 rfl) rfl
theorem q1223 : (Jvm.Cond.selects "KindPostman" ({ cls := "KindPostman", name := "box", desc := "(I)I" } : Jvm.MethodName) ({ cls := "KindPostman", name := "box", desc := "(I)I" } : Jvm.MethodName)) ∈ lw_all := lw_g (lw_at lw_m5 121 rfl) rfl
theorem q1224 : (Jvm.Cond.code ({ cls := "KindPostman", name := "box", desc := "(I)I" } : Jvm.MethodName) prog_1_method_34_code (7 : Nat) (Option.some Jvm.ClassFile.FieldType.int)) ∈ lw_all := lw_g (lw_at lw_m5 122 rfl) rfl
theorem q1226 : (Jvm.Cond.instanceMethod ({ cls := "KindPostman", name := "blow", desc := "(I)I" } : Jvm.MethodName)) ∈ lw_all := lw_g (lw_at lw_m5 124 rfl) rfl
theorem q1227 : (Jvm.Cond.selects "KindPostman" ({ cls := "KindPostman", name := "blow", desc := "(I)I" } : Jvm.MethodName) ({ cls := "KindPostman", name := "blow", desc := "(I)I" } : Jvm.MethodName)) ∈ lw_all := lw_g (lw_at lw_m5 125 rfl) rfl
theorem q1228 : (Jvm.Cond.code ({ cls := "KindPostman", name := "blow", desc := "(I)I" } : Jvm.MethodName) prog_1_method_35_code (2 : Nat) (Option.some Jvm.ClassFile.FieldType.int)) ∈ lw_all := lw_g (lw_at lw_m5 126 rfl) rfl
theorem q1229 : (Jvm.Cond.methodLink "KindPostman" (293 : Nat) ({ cls := "KindPostman$Rows", name := "ends", desc := "()I" } : Jvm.MethodName)) ∈ lw_all := lw_g (lw_at lw_m5 127 rfl) rfl
theorem q1233 : (Jvm.Cond.methodLink "KindPostman" (298 : Nat) ({ cls := "KindPostman$Rows", name := "tells", desc := "(III)I" } : Jvm.MethodName)) ∈ lw_all := lw_g (lw_at lw_m5 131 rfl) rfl
theorem q1238 : (Jvm.Cond.instanceMethod ({ cls := "KindPostman", name := "bears", desc := "(II)I" } : Jvm.MethodName)) ∈ lw_all := lw_g (lw_at lw_m5 136 rfl) rfl
theorem q1239 : (Jvm.Cond.selects "KindPostman" ({ cls := "KindPostman", name := "bears", desc := "(II)I" } : Jvm.MethodName) ({ cls := "KindPostman", name := "bears", desc := "(II)I" } : Jvm.MethodName)) ∈ lw_all := lw_g (lw_at lw_m5 137 rfl) rfl
theorem q1240 : (Jvm.Cond.code ({ cls := "KindPostman", name := "bears", desc := "(II)I" } : Jvm.MethodName) prog_1_method_37_code (5 : Nat) (Option.some Jvm.ClassFile.FieldType.int)) ∈ lw_all := lw_g (lw_at lw_m5 138 rfl) rfl
theorem q1241 : (Jvm.Cond.methodLink "KindPostman" (311 : Nat) ({ cls := "KindPostman", name := "laysBlows", desc := "(II)V" } : Jvm.MethodName)) ∈ lw_all := lw_g (lw_at lw_m5 139 rfl) rfl
theorem q1242 : (Jvm.Cond.privateMethod ({ cls := "KindPostman", name := "laysBlows", desc := "(II)V" } : Jvm.MethodName)) ∈ lw_tbl := lw_at lw_m5 140 rfl
theorem q1243 : (Jvm.Cond.instanceMethod ({ cls := "KindPostman", name := "laysBlows", desc := "(II)V" } : Jvm.MethodName)) ∈ lw_all := lw_g (lw_at lw_m5 141 rfl) rfl
theorem q1244 : (Jvm.Cond.code ({ cls := "KindPostman", name := "laysBlows", desc := "(II)V" } : Jvm.MethodName) prog_1_method_36_code (8 : Nat) (Option.none : Option Jvm.ClassFile.FieldType)) ∈ lw_all := lw_g (lw_at lw_m5 142 rfl) rfl
theorem q1245 : (Jvm.Cond.methodLink "KindPostman" (303 : Nat) ({ cls := "java/lang/Integer", name := "bitCount", desc := "(I)I" } : Jvm.MethodName)) ∈ lw_all := lw_g (lw_at lw_m5 143 rfl) rfl
theorem q1252 : (Jvm.Cond.instanceMethod ({ cls := "KindPostman", name := "carries", desc := "(II)I" } : Jvm.MethodName)) ∈ lw_all := lw_g (lw_at lw_m5 150 rfl) rfl
theorem q1253 : (Jvm.Cond.selects "KindPostman" ({ cls := "KindPostman", name := "carries", desc := "(II)I" } : Jvm.MethodName) ({ cls := "KindPostman", name := "carries", desc := "(II)I" } : Jvm.MethodName)) ∈ lw_all := lw_g (lw_at lw_m5 151 rfl) rfl
theorem q1254 : (Jvm.Cond.code ({ cls := "KindPostman", name := "carries", desc := "(II)I" } : Jvm.MethodName) prog_1_method_38_code (7 : Nat) (Option.some Jvm.ClassFile.FieldType.int)) ∈ lw_all := lw_g (lw_at lw_m5 152 rfl) rfl
theorem q1255 : (Jvm.Cond.constant "KindPostman" (314 : Nat) (1000000007 : Int32)) ∈ lw_all := lw_g (lw_at lw_m5 153 rfl) rfl
theorem q1256 : (Jvm.Cond.methodLink "KindPostman" (315 : Nat) ({ cls := "KindPostman", name := "manyWithin", desc := "(I)I" } : Jvm.MethodName)) ∈ lw_all := lw_g (lw_at lw_m5 154 rfl) rfl
theorem q1257 : (Jvm.Cond.privateMethod ({ cls := "KindPostman", name := "manyWithin", desc := "(I)I" } : Jvm.MethodName)) ∈ lw_tbl := lw_at lw_m5 155 rfl
theorem q1258 : (Jvm.Cond.instanceMethod ({ cls := "KindPostman", name := "manyWithin", desc := "(I)I" } : Jvm.MethodName)) ∈ lw_all := lw_g (lw_at lw_m5 156 rfl) rfl
theorem q1259 : (Jvm.Cond.code ({ cls := "KindPostman", name := "manyWithin", desc := "(I)I" } : Jvm.MethodName) prog_1_method_39_code (6 : Nat) (Option.some Jvm.ClassFile.FieldType.int)) ∈ lw_all := lw_g (lw_at lw_m5 157 rfl) rfl
theorem q1261 : (Jvm.Cond.instanceMethod ({ cls := "KindPostman", name := "owes", desc := "(III)I" } : Jvm.MethodName)) ∈ lw_all := lw_g (lw_at lw_m5 159 rfl) rfl
theorem q1262 : (Jvm.Cond.selects "KindPostman" ({ cls := "KindPostman", name := "owes", desc := "(III)I" } : Jvm.MethodName) ({ cls := "KindPostman", name := "owes", desc := "(III)I" } : Jvm.MethodName)) ∈ lw_all := lw_g (lw_at lw_m5 160 rfl) rfl
theorem q1263 : (Jvm.Cond.code ({ cls := "KindPostman", name := "owes", desc := "(III)I" } : Jvm.MethodName) prog_1_method_40_code (4 : Nat) (Option.some Jvm.ClassFile.FieldType.int)) ∈ lw_all := lw_g (lw_at lw_m5 161 rfl) rfl
theorem q1265 : (Jvm.Cond.instanceMethod ({ cls := "KindPostman", name := "net", desc := "(I)I" } : Jvm.MethodName)) ∈ lw_all := lw_g (lw_at lw_m5 163 rfl) rfl
theorem q1266 : (Jvm.Cond.selects "KindPostman" ({ cls := "KindPostman", name := "net", desc := "(I)I" } : Jvm.MethodName) ({ cls := "KindPostman", name := "net", desc := "(I)I" } : Jvm.MethodName)) ∈ lw_all := lw_g (lw_at lw_m5 164 rfl) rfl
theorem q1267 : (Jvm.Cond.code ({ cls := "KindPostman", name := "net", desc := "(I)I" } : Jvm.MethodName) prog_1_method_43_code (2 : Nat) (Option.some Jvm.ClassFile.FieldType.int)) ∈ lw_all := lw_g (lw_at lw_m5 165 rfl) rfl
theorem q1268 : (Jvm.Cond.methodLink "KindPostman" (324 : Nat) ({ cls := "KindPostman", name := "fewest", desc := "()I" } : Jvm.MethodName)) ∈ lw_all := lw_g (lw_at lw_m5 166 rfl) rfl
theorem q1269 : (Jvm.Cond.privateMethod ({ cls := "KindPostman", name := "fewest", desc := "()I" } : Jvm.MethodName)) ∈ lw_tbl := lw_at lw_m5 167 rfl
theorem q1270 : (Jvm.Cond.instanceMethod ({ cls := "KindPostman", name := "fewest", desc := "()I" } : Jvm.MethodName)) ∈ lw_all := lw_g (lw_at lw_m5 168 rfl) rfl
theorem q1271 : (Jvm.Cond.code ({ cls := "KindPostman", name := "fewest", desc := "()I" } : Jvm.MethodName) prog_1_method_42_code (4 : Nat) (Option.some Jvm.ClassFile.FieldType.int)) ∈ lw_all := lw_g (lw_at lw_m5 169 rfl) rfl
theorem q1272 : (Jvm.Cond.methodLink "KindPostman" (321 : Nat) ({ cls := "KindPostman", name := "netOf", desc := "(I)I" } : Jvm.MethodName)) ∈ lw_all := lw_g (lw_at lw_m5 170 rfl) rfl
theorem q1273 : (Jvm.Cond.privateMethod ({ cls := "KindPostman", name := "netOf", desc := "(I)I" } : Jvm.MethodName)) ∈ lw_tbl := lw_at lw_m5 171 rfl
theorem q1274 : (Jvm.Cond.instanceMethod ({ cls := "KindPostman", name := "netOf", desc := "(I)I" } : Jvm.MethodName)) ∈ lw_all := lw_g (lw_at lw_m5 172 rfl) rfl
theorem q1275 : (Jvm.Cond.code ({ cls := "KindPostman", name := "netOf", desc := "(I)I" } : Jvm.MethodName) prog_1_method_41_code (5 : Nat) (Option.some Jvm.ClassFile.FieldType.int)) ∈ lw_all := lw_g (lw_at lw_m5 173 rfl) rfl
theorem q1277 : (Jvm.Cond.instanceMethod ({ cls := "KindPostman", name := "chain", desc := "(IIII)I" } : Jvm.MethodName)) ∈ lw_all := lw_g (lw_at lw_m5 175 rfl) rfl
theorem q1278 : (Jvm.Cond.selects "KindPostman" ({ cls := "KindPostman", name := "chain", desc := "(IIII)I" } : Jvm.MethodName) ({ cls := "KindPostman", name := "chain", desc := "(IIII)I" } : Jvm.MethodName)) ∈ lw_all := lw_g (lw_at lw_m5 176 rfl) rfl
theorem q1279 : (Jvm.Cond.code ({ cls := "KindPostman", name := "chain", desc := "(IIII)I" } : Jvm.MethodName) prog_1_method_44_code (8 : Nat) (Option.some Jvm.ClassFile.FieldType.int)) ∈ lw_all := lw_g (lw_at lw_m5 177 rfl) rfl
theorem q1281 : (Jvm.Cond.instanceMethod ({ cls := "KindPostman", name := "has", desc := "(II)Z" } : Jvm.MethodName)) ∈ lw_all := lw_g (lw_at lw_m5 179 rfl) rfl
theorem q1282 : (Jvm.Cond.selects "KindPostman" ({ cls := "KindPostman", name := "has", desc := "(II)Z" } : Jvm.MethodName) ({ cls := "KindPostman", name := "has", desc := "(II)Z" } : Jvm.MethodName)) ∈ lw_all := lw_g (lw_at lw_m5 180 rfl) rfl
theorem q1283 : (Jvm.Cond.code ({ cls := "KindPostman", name := "has", desc := "(II)Z" } : Jvm.MethodName) prog_1_method_45_code (3 : Nat) (Option.some Jvm.ClassFile.FieldType.boolean)) ∈ lw_all := lw_g (lw_at lw_m5 181 rfl) rfl
theorem q1285 : (Jvm.Cond.instanceMethod ({ cls := "KindPostman", name := "spell", desc := "(I)I" } : Jvm.MethodName)) ∈ lw_all := lw_g (lw_at lw_m5 183 rfl) rfl
theorem q1286 : (Jvm.Cond.selects "KindPostman" ({ cls := "KindPostman", name := "spell", desc := "(I)I" } : Jvm.MethodName) ({ cls := "KindPostman", name := "spell", desc := "(I)I" } : Jvm.MethodName)) ∈ lw_all := lw_g (lw_at lw_m5 184 rfl) rfl
theorem q1287 : (Jvm.Cond.code ({ cls := "KindPostman", name := "spell", desc := "(I)I" } : Jvm.MethodName) prog_1_method_46_code (2 : Nat) (Option.some Jvm.ClassFile.FieldType.int)) ∈ lw_all := lw_g (lw_at lw_m5 185 rfl) rfl
theorem q1289 : (Jvm.Cond.instanceMethod ({ cls := "KindPostman", name := "lays", desc := "(I)I" } : Jvm.MethodName)) ∈ lw_all := lw_g (lw_at lw_m5 187 rfl) rfl
theorem q1290 : (Jvm.Cond.selects "KindPostman" ({ cls := "KindPostman", name := "lays", desc := "(I)I" } : Jvm.MethodName) ({ cls := "KindPostman", name := "lays", desc := "(I)I" } : Jvm.MethodName)) ∈ lw_all := lw_g (lw_at lw_m5 188 rfl) rfl
theorem q1291 : (Jvm.Cond.code ({ cls := "KindPostman", name := "lays", desc := "(I)I" } : Jvm.MethodName) prog_1_method_48_code (7 : Nat) (Option.some Jvm.ClassFile.FieldType.int)) ∈ lw_all := lw_g (lw_at lw_m5 189 rfl) rfl
theorem q1292 : (Jvm.Cond.methodLink "KindPostman" (332 : Nat) ({ cls := "KindPostman", name := "inWord", desc := "(II)I" } : Jvm.MethodName)) ∈ lw_all := lw_g (lw_at lw_m5 190 rfl) rfl
theorem q1293 : (Jvm.Cond.privateMethod ({ cls := "KindPostman", name := "inWord", desc := "(II)I" } : Jvm.MethodName)) ∈ lw_tbl := lw_at lw_m5 191 rfl
theorem q1294 : (Jvm.Cond.instanceMethod ({ cls := "KindPostman", name := "inWord", desc := "(II)I" } : Jvm.MethodName)) ∈ lw_all := lw_g (lw_at lw_m5 192 rfl) rfl
theorem q1295 : (Jvm.Cond.code ({ cls := "KindPostman", name := "inWord", desc := "(II)I" } : Jvm.MethodName) prog_1_method_47_code (5 : Nat) (Option.some Jvm.ClassFile.FieldType.int)) ∈ lw_all := lw_g (lw_at lw_m5 193 rfl) rfl
theorem q1297 : (Jvm.Cond.instanceMethod ({ cls := "KindPostman", name := "answer", desc := "(II)I" } : Jvm.MethodName)) ∈ lw_all := lw_g (lw_at lw_m5 195 rfl) rfl
theorem q1298 : (Jvm.Cond.selects "KindPostman" ({ cls := "KindPostman", name := "answer", desc := "(II)I" } : Jvm.MethodName) ({ cls := "KindPostman", name := "answer", desc := "(II)I" } : Jvm.MethodName)) ∈ lw_all := lw_g (lw_at lw_m5 196 rfl) rfl
theorem q1299 : (Jvm.Cond.code ({ cls := "KindPostman", name := "answer", desc := "(II)I" } : Jvm.MethodName) prog_1_method_49_code (3 : Nat) (Option.some Jvm.ClassFile.FieldType.int)) ∈ lw_all := lw_g (lw_at lw_m5 197 rfl) rfl
theorem q1301 : (Jvm.Cond.instanceMethod ({ cls := "KindPostman", name := "likely", desc := "(II)I" } : Jvm.MethodName)) ∈ lw_all := lw_g (lw_at lw_m5 199 rfl) rfl
theorem q1302 : (Jvm.Cond.selects "KindPostman" ({ cls := "KindPostman", name := "likely", desc := "(II)I" } : Jvm.MethodName) ({ cls := "KindPostman", name := "likely", desc := "(II)I" } : Jvm.MethodName)) ∈ lw_all := lw_g (lw_at lw_m5 200 rfl) rfl
theorem q1303 : (Jvm.Cond.code ({ cls := "KindPostman", name := "likely", desc := "(II)I" } : Jvm.MethodName) prog_1_method_52_code (6 : Nat) (Option.some Jvm.ClassFile.FieldType.int)) ∈ lw_all := lw_g (lw_at lw_m5 201 rfl) rfl
theorem q1304 : (Jvm.Cond.methodLink "KindPostman" (341 : Nat) ({ cls := "KindPostman", name := "likelyOf", desc := "(I)I" } : Jvm.MethodName)) ∈ lw_all := lw_g (lw_at lw_m5 202 rfl) rfl
theorem q1305 : (Jvm.Cond.privateMethod ({ cls := "KindPostman", name := "likelyOf", desc := "(I)I" } : Jvm.MethodName)) ∈ lw_tbl := lw_at lw_m5 203 rfl
theorem q1306 : (Jvm.Cond.instanceMethod ({ cls := "KindPostman", name := "likelyOf", desc := "(I)I" } : Jvm.MethodName)) ∈ lw_all := lw_g (lw_at lw_m5 204 rfl) rfl
theorem q1307 : (Jvm.Cond.code ({ cls := "KindPostman", name := "likelyOf", desc := "(I)I" } : Jvm.MethodName) prog_1_method_51_code (4 : Nat) (Option.some Jvm.ClassFile.FieldType.int)) ∈ lw_all := lw_g (lw_at lw_m5 205 rfl) rfl
theorem q1308 : (Jvm.Cond.methodLink "KindPostman" (338 : Nat) ({ cls := "KindPostman", name := "answered", desc := "(II)I" } : Jvm.MethodName)) ∈ lw_all := lw_g (lw_at lw_m5 206 rfl) rfl
theorem q1309 : (Jvm.Cond.privateMethod ({ cls := "KindPostman", name := "answered", desc := "(II)I" } : Jvm.MethodName)) ∈ lw_tbl := lw_at lw_m5 207 rfl
theorem q1310 : (Jvm.Cond.instanceMethod ({ cls := "KindPostman", name := "answered", desc := "(II)I" } : Jvm.MethodName)) ∈ lw_all := lw_g (lw_at lw_m5 208 rfl) rfl
theorem q1311 : (Jvm.Cond.code ({ cls := "KindPostman", name := "answered", desc := "(II)I" } : Jvm.MethodName) prog_1_method_50_code (5 : Nat) (Option.some Jvm.ClassFile.FieldType.int)) ∈ lw_all := lw_g (lw_at lw_m5 209 rfl) rfl
theorem q1313 : (Jvm.Cond.instanceMethod ({ cls := "KindPostman", name := "face", desc := "(II)I" } : Jvm.MethodName)) ∈ lw_all := lw_g (lw_at lw_m5 211 rfl) rfl
theorem q1314 : (Jvm.Cond.selects "KindPostman" ({ cls := "KindPostman", name := "face", desc := "(II)I" } : Jvm.MethodName) ({ cls := "KindPostman", name := "face", desc := "(II)I" } : Jvm.MethodName)) ∈ lw_all := lw_g (lw_at lw_m5 212 rfl) rfl
theorem q1315 : (Jvm.Cond.code ({ cls := "KindPostman", name := "face", desc := "(II)I" } : Jvm.MethodName) prog_1_method_53_code (3 : Nat) (Option.some Jvm.ClassFile.FieldType.int)) ∈ lw_all := lw_g (lw_at lw_m5 213 rfl) rfl
theorem q1317 : (Jvm.Cond.instanceMethod ({ cls := "KindPostman", name := "faces", desc := "(I)I" } : Jvm.MethodName)) ∈ lw_all := lw_g (lw_at lw_m5 215 rfl) rfl
theorem q1318 : (Jvm.Cond.selects "KindPostman" ({ cls := "KindPostman", name := "faces", desc := "(I)I" } : Jvm.MethodName) ({ cls := "KindPostman", name := "faces", desc := "(I)I" } : Jvm.MethodName)) ∈ lw_all := lw_g (lw_at lw_m5 216 rfl) rfl
theorem q1319 : (Jvm.Cond.code ({ cls := "KindPostman", name := "faces", desc := "(I)I" } : Jvm.MethodName) prog_1_method_57_code (6 : Nat) (Option.some Jvm.ClassFile.FieldType.int)) ∈ lw_all := lw_g (lw_at lw_m5 217 rfl) rfl
theorem q1320 : (Jvm.Cond.methodLink "KindPostman" (350 : Nat) ({ cls := "KindPostman", name := "allows", desc := "(I)Z" } : Jvm.MethodName)) ∈ lw_all := lw_g (lw_at lw_m5 218 rfl) rfl
theorem q1321 : (Jvm.Cond.privateMethod ({ cls := "KindPostman", name := "allows", desc := "(I)Z" } : Jvm.MethodName)) ∈ lw_tbl := lw_at lw_m5 219 rfl
theorem q1322 : (Jvm.Cond.instanceMethod ({ cls := "KindPostman", name := "allows", desc := "(I)Z" } : Jvm.MethodName)) ∈ lw_all := lw_g (lw_at lw_m5 220 rfl) rfl
theorem q1323 : (Jvm.Cond.code ({ cls := "KindPostman", name := "allows", desc := "(I)Z" } : Jvm.MethodName) prog_1_method_55_code (5 : Nat) (Option.some Jvm.ClassFile.FieldType.boolean)) ∈ lw_all := lw_g (lw_at lw_m5 221 rfl) rfl
theorem q1324 : (Jvm.Cond.methodLink "KindPostman" (347 : Nat) ({ cls := "KindPostman", name := "change", desc := "(II)I" } : Jvm.MethodName)) ∈ lw_all := lw_g (lw_at lw_m5 222 rfl) rfl
theorem q1325 : (Jvm.Cond.static ({ cls := "KindPostman", name := "change", desc := "(II)I" } : Jvm.MethodName)) ∈ lw_all := lw_g (lw_at lw_m5 223 rfl) rfl
theorem q1326 : (Jvm.Cond.code ({ cls := "KindPostman", name := "change", desc := "(II)I" } : Jvm.MethodName) prog_1_method_54_code (2 : Nat) (Option.some Jvm.ClassFile.FieldType.int)) ∈ lw_all := lw_g (lw_at lw_m5 224 rfl) rfl
theorem q1327 : (Jvm.Cond.methodLink "KindPostman" (353 : Nat) ({ cls := "KindPostman", name := "kinds", desc := "(I)I" } : Jvm.MethodName)) ∈ lw_all := lw_g (lw_at lw_m5 225 rfl) rfl
theorem q1328 : (Jvm.Cond.static ({ cls := "KindPostman", name := "kinds", desc := "(I)I" } : Jvm.MethodName)) ∈ lw_all := lw_g (lw_at lw_m5 226 rfl) rfl
theorem q1329 : (Jvm.Cond.code ({ cls := "KindPostman", name := "kinds", desc := "(I)I" } : Jvm.MethodName) prog_1_method_56_code (1 : Nat) (Option.some Jvm.ClassFile.FieldType.int)) ∈ lw_all := lw_g (lw_at lw_m5 227 rfl) rfl
theorem q1331 : (Jvm.Cond.instanceMethod ({ cls := "KindPostman", name := "joy", desc := "(I)I" } : Jvm.MethodName)) ∈ lw_all := lw_g (lw_at lw_m5 229 rfl) rfl
theorem q1332 : (Jvm.Cond.selects "KindPostman" ({ cls := "KindPostman", name := "joy", desc := "(I)I" } : Jvm.MethodName) ({ cls := "KindPostman", name := "joy", desc := "(I)I" } : Jvm.MethodName)) ∈ lw_all := lw_g (lw_at lw_m5 230 rfl) rfl
theorem q1333 : (Jvm.Cond.code ({ cls := "KindPostman", name := "joy", desc := "(I)I" } : Jvm.MethodName) prog_1_method_58_code (7 : Nat) (Option.some Jvm.ClassFile.FieldType.int)) ∈ lw_all := lw_g (lw_at lw_m5 231 rfl) rfl
theorem q1334 : (Jvm.Cond.constant "KindPostman" (356 : Nat) (-100000000 : Int32)) ∈ lw_all := lw_g (lw_at lw_m5 232 rfl) rfl
theorem q1336 : (Jvm.Cond.instanceMethod ({ cls := "KindPostman", name := "game", desc := "(I)I" } : Jvm.MethodName)) ∈ lw_all := lw_g (lw_at lw_m5 234 rfl) rfl
theorem q1337 : (Jvm.Cond.selects "KindPostman" ({ cls := "KindPostman", name := "game", desc := "(I)I" } : Jvm.MethodName) ({ cls := "KindPostman", name := "game", desc := "(I)I" } : Jvm.MethodName)) ∈ lw_all := lw_g (lw_at lw_m5 235 rfl) rfl
theorem q1338 : (Jvm.Cond.code ({ cls := "KindPostman", name := "game", desc := "(I)I" } : Jvm.MethodName) prog_1_method_59_code (6 : Nat) (Option.some Jvm.ClassFile.FieldType.int)) ∈ lw_all := lw_g (lw_at lw_m5 236 rfl) rfl
theorem q1340 : (Jvm.Cond.instanceMethod ({ cls := "KindPostman", name := "image", desc := "(Z)Z" } : Jvm.MethodName)) ∈ lw_all := lw_g (lw_at lw_m5 238 rfl) rfl
theorem q1341 : (Jvm.Cond.selects "KindPostman" ({ cls := "KindPostman", name := "image", desc := "(Z)Z" } : Jvm.MethodName) ({ cls := "KindPostman", name := "image", desc := "(Z)Z" } : Jvm.MethodName)) ∈ lw_all := lw_g (lw_at lw_m5 239 rfl) rfl
theorem q1342 : (Jvm.Cond.code ({ cls := "KindPostman", name := "image", desc := "(Z)Z" } : Jvm.MethodName) prog_1_method_60_code (2 : Nat) (Option.some Jvm.ClassFile.FieldType.boolean)) ∈ lw_all := lw_g (lw_at lw_m6 0 rfl) rfl
theorem q1343 : (Jvm.Cond.methodLink "KindPostman" (360 : Nat) ({ cls := "KindPostman$Walk", name := "takes", desc := "(LKindPostman$Walk;)V" } : Jvm.MethodName)) ∈ lw_all := lw_g (lw_at lw_m6 1 rfl) rfl
theorem q1353 : (Jvm.Cond.instanceMethod ({ cls := "KindPostman", name := "look", desc := "(I)I" } : Jvm.MethodName)) ∈ lw_all := lw_g (lw_at lw_m6 11 rfl) rfl
theorem q1354 : (Jvm.Cond.selects "KindPostman" ({ cls := "KindPostman", name := "look", desc := "(I)I" } : Jvm.MethodName) ({ cls := "KindPostman", name := "look", desc := "(I)I" } : Jvm.MethodName)) ∈ lw_all := lw_g (lw_at lw_m6 12 rfl) rfl
theorem q1355 : (Jvm.Cond.code ({ cls := "KindPostman", name := "look", desc := "(I)I" } : Jvm.MethodName) prog_1_method_61_code (2 : Nat) (Option.some Jvm.ClassFile.FieldType.int)) ∈ lw_all := lw_g (lw_at lw_m6 13 rfl) rfl
theorem q2077 : (Jvm.Cond.castable "KindPostman" "java/lang/Object") ∈ lw_tbl := lw_at lw_m9 15 rfl
theorem in_X0 : ∀ w ∈ wsX00, w ∈ lw_all := lw_in wsX00 [453, 455, 457, 459, 461, 463, 465, 467, 469, 471, 473, 475, 477, 479, 481, 483, 485] (by decide +kernel) (by decide +kernel)
