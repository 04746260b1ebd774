/-! RailingsCount$State -/
set_option maxRecDepth 100000
def RX1 : String := "RailingsCount$State"
def TX1 : u_T := fun k => match k with
  | 0 => ("RailingsCount$State", "n", "[I", true)
  | 1 => ("RailingsCount$State", "row", "[I", true)
  | 2 => ("RailingsCount$State", "stride", "[I", true)
  | 3 => ("RailingsCount$State", "luck", "[I", true)
  | 4 => ("RailingsCount$State", "value", "[I", true)
  | 5 => ("RailingsCount$State", "telling", "[[I", true)
  | 6 => ("RailingsCount$State", "said", "[[I", true)
  | 7 => ("RailingsCount$State", "step", "[[I", true)
  | _ => ("RailingsCount$State", "text", "[LRailingsCount$Text;", true)
def tyX1 : Nat → FieldType := fun k => match k with
  | 0 => .array .int
  | 1 => .array .int
  | 2 => .array .int
  | 3 => .array .int
  | 4 => .array .int
  | 5 => .array (.array .int)
  | 6 => .array (.array .int)
  | 7 => .array (.array .int)
  | _ => .array (.object "RailingsCount$Text")
abbrev wsX10 : List Cond := u_ws RX1 TX1 9
theorem nmX1 : ∀ a, a < 9 → ∀ b, b < 9 → a ≠ b → (TX1 a).2.1 ≠ (TX1 b).2.1 := by decide +kernel
theorem tyX1_ok : ∀ k, k < 9 → parseFieldDescriptor (TX1 k).2.2.1 = some (tyX1 k) := by decide +kernel
abbrev cX1_init : ByteArray := prog_14_method_1_code
def yX1_init : MethodName := ⟨RX1, "<init>", "()V"⟩
def dkwX1_init_6 : List UInt8 := [180, 0, 24, 27, 27, 79, 132, 1, 1, 167, 255, 237, 177]
abbrev dktX1_init_6 : List UInt8 := dkwX1_init_6 ++ []
def dkwX1_init_5 : List UInt8 := [180, 0, 15, 16, 62, 16, 69, 2, 184, 0, 44, 3, 60, 27, 42, 180, 0, 24, 190, 162, 0, 16, 42]
abbrev dktX1_init_5 : List UInt8 := dkwX1_init_5 ++ dktX1_init_6
def dkwX1_init_4 : List UInt8 := [79, 42, 180, 0, 15, 4, 17, 1, 7, 79, 42, 180, 0, 15, 5, 16, 32, 4, 184, 0, 44, 42]
abbrev dktX1_init_4 : List UInt8 := dkwX1_init_4 ++ dktX1_init_5
def dkwX1_init_3 : List UInt8 := [17, 0, 190, 197, 0, 27, 2, 181, 0, 35, 42, 7, 189, 0, 38, 181, 0, 40, 42, 180, 0, 9, 5, 2]
abbrev dktX1_init_3 : List UInt8 := dkwX1_init_3 ++ dktX1_init_4
def dkwX1_init_2 : List UInt8 := [6, 197, 0, 27, 2, 181, 0, 29, 42, 16, 8, 6, 197, 0, 27, 2, 181, 0, 32, 42, 16, 30]
abbrev dktX1_init_2 : List UInt8 := dkwX1_init_2 ++ dktX1_init_3
def dkwX1_init_1 : List UInt8 := [188, 10, 181, 0, 18, 42, 16, 7, 188, 10, 181, 0, 21, 42, 16, 13, 188, 10, 181, 0, 24, 42, 16, 6]
abbrev dktX1_init_1 : List UInt8 := dkwX1_init_1 ++ dktX1_init_2
def dkwX1_init_0 : List UInt8 := [42, 183, 0, 3, 42, 16, 6, 188, 10, 181, 0, 9, 42, 17, 0, 190, 188, 10, 181, 0, 15, 42, 16, 7]
abbrev dktX1_init_0 : List UInt8 := dkwX1_init_0 ++ dktX1_init_1
theorem dksX1_init_0 : cX1_init.data.toList.drop 0 = dktX1_init_0 := by decide +kernel
theorem dksX1_init_1 : cX1_init.data.toList.drop 24 = dktX1_init_1 := dk_seg dksX1_init_0 24 rfl rfl
theorem dksX1_init_2 : cX1_init.data.toList.drop 48 = dktX1_init_2 := dk_seg dksX1_init_1 24 rfl rfl
theorem dksX1_init_3 : cX1_init.data.toList.drop 70 = dktX1_init_3 := dk_seg dksX1_init_2 22 rfl rfl
theorem dksX1_init_4 : cX1_init.data.toList.drop 94 = dktX1_init_4 := dk_seg dksX1_init_3 24 rfl rfl
theorem dksX1_init_5 : cX1_init.data.toList.drop 116 = dktX1_init_5 := dk_seg dksX1_init_4 22 rfl rfl
theorem dksX1_init_6 : cX1_init.data.toList.drop 139 = dktX1_init_6 := dk_seg dksX1_init_5 23 rfl rfl
theorem dX1_init_0 : decode cX1_init 0 = .ok (.aload_n 0, 1) := dk_42 (dk_at dksX1_init_0 0 rfl rfl)
theorem dX1_init_1 : decode cX1_init 1 = .ok (.invokespecial 3, 3) := dk_183 0 3 (dk_at dksX1_init_0 1 rfl rfl)
theorem dX1_init_4 : decode cX1_init 4 = .ok (.aload_n 0, 1) := dk_42 (dk_at dksX1_init_0 4 rfl rfl)
theorem dX1_init_5 : decode cX1_init 5 = .ok (.bipush 6, 2) := dk_16 6 (dk_at dksX1_init_0 5 rfl rfl)
theorem dX1_init_7 : decode cX1_init 7 = .ok (.newarray .int, 2) := dk_188_10 (dk_at dksX1_init_0 7 rfl rfl)
theorem dX1_init_9 : decode cX1_init 9 = .ok (.putfield 9, 3) := dk_181 0 9 (dk_at dksX1_init_0 9 rfl rfl)
theorem dX1_init_12 : decode cX1_init 12 = .ok (.aload_n 0, 1) := dk_42 (dk_at dksX1_init_0 12 rfl rfl)
theorem dX1_init_13 : decode cX1_init 13 = .ok (.sipush 190, 3) := dk_17 0 190 (dk_at dksX1_init_0 13 rfl rfl)
theorem dX1_init_16 : decode cX1_init 16 = .ok (.newarray .int, 2) := dk_188_10 (dk_at dksX1_init_0 16 rfl rfl)
theorem dX1_init_18 : decode cX1_init 18 = .ok (.putfield 15, 3) := dk_181 0 15 (dk_at dksX1_init_0 18 rfl rfl)
theorem dX1_init_21 : decode cX1_init 21 = .ok (.aload_n 0, 1) := dk_42 (dk_at dksX1_init_0 21 rfl rfl)
theorem dX1_init_22 : decode cX1_init 22 = .ok (.bipush 7, 2) := dk_16 7 (dk_at dksX1_init_0 22 rfl rfl)
theorem dX1_init_24 : decode cX1_init 24 = .ok (.newarray .int, 2) := dk_188_10 (dk_at dksX1_init_1 0 rfl rfl)
theorem dX1_init_26 : decode cX1_init 26 = .ok (.putfield 18, 3) := dk_181 0 18 (dk_at dksX1_init_1 2 rfl rfl)
theorem dX1_init_29 : decode cX1_init 29 = .ok (.aload_n 0, 1) := dk_42 (dk_at dksX1_init_1 5 rfl rfl)
theorem dX1_init_30 : decode cX1_init 30 = .ok (.bipush 7, 2) := dk_16 7 (dk_at dksX1_init_1 6 rfl rfl)
theorem dX1_init_32 : decode cX1_init 32 = .ok (.newarray .int, 2) := dk_188_10 (dk_at dksX1_init_1 8 rfl rfl)
theorem dX1_init_34 : decode cX1_init 34 = .ok (.putfield 21, 3) := dk_181 0 21 (dk_at dksX1_init_1 10 rfl rfl)
theorem dX1_init_37 : decode cX1_init 37 = .ok (.aload_n 0, 1) := dk_42 (dk_at dksX1_init_1 13 rfl rfl)
theorem dX1_init_38 : decode cX1_init 38 = .ok (.bipush 13, 2) := dk_16 13 (dk_at dksX1_init_1 14 rfl rfl)
theorem dX1_init_40 : decode cX1_init 40 = .ok (.newarray .int, 2) := dk_188_10 (dk_at dksX1_init_1 16 rfl rfl)
theorem dX1_init_42 : decode cX1_init 42 = .ok (.putfield 24, 3) := dk_181 0 24 (dk_at dksX1_init_1 18 rfl rfl)
theorem dX1_init_45 : decode cX1_init 45 = .ok (.aload_n 0, 1) := dk_42 (dk_at dksX1_init_1 21 rfl rfl)
theorem dX1_init_46 : decode cX1_init 46 = .ok (.bipush 6, 2) := dk_16 6 (dk_at dksX1_init_1 22 rfl rfl)
theorem dX1_init_48 : decode cX1_init 48 = .ok (.iconst 3, 1) := dk_6 (dk_at dksX1_init_2 0 rfl rfl)
theorem dX1_init_49 : decode cX1_init 49 = .ok (.multianewarray 27 2, 4) := by decide +kernel
theorem dX1_init_53 : decode cX1_init 53 = .ok (.putfield 29, 3) := dk_181 0 29 (dk_at dksX1_init_2 5 rfl rfl)
theorem dX1_init_56 : decode cX1_init 56 = .ok (.aload_n 0, 1) := dk_42 (dk_at dksX1_init_2 8 rfl rfl)
theorem dX1_init_57 : decode cX1_init 57 = .ok (.bipush 8, 2) := dk_16 8 (dk_at dksX1_init_2 9 rfl rfl)
theorem dX1_init_59 : decode cX1_init 59 = .ok (.iconst 3, 1) := dk_6 (dk_at dksX1_init_2 11 rfl rfl)
theorem dX1_init_60 : decode cX1_init 60 = .ok (.multianewarray 27 2, 4) := by decide +kernel
theorem dX1_init_64 : decode cX1_init 64 = .ok (.putfield 32, 3) := dk_181 0 32 (dk_at dksX1_init_2 16 rfl rfl)
theorem dX1_init_67 : decode cX1_init 67 = .ok (.aload_n 0, 1) := dk_42 (dk_at dksX1_init_2 19 rfl rfl)
theorem dX1_init_68 : decode cX1_init 68 = .ok (.bipush 30, 2) := dk_16 30 (dk_at dksX1_init_2 20 rfl rfl)
theorem dX1_init_70 : decode cX1_init 70 = .ok (.sipush 190, 3) := dk_17 0 190 (dk_at dksX1_init_3 0 rfl rfl)
theorem dX1_init_73 : decode cX1_init 73 = .ok (.multianewarray 27 2, 4) := by decide +kernel
theorem dX1_init_77 : decode cX1_init 77 = .ok (.putfield 35, 3) := dk_181 0 35 (dk_at dksX1_init_3 7 rfl rfl)
theorem dX1_init_80 : decode cX1_init 80 = .ok (.aload_n 0, 1) := dk_42 (dk_at dksX1_init_3 10 rfl rfl)
theorem dX1_init_81 : decode cX1_init 81 = .ok (.iconst 4, 1) := dk_7 (dk_at dksX1_init_3 11 rfl rfl)
theorem dX1_init_82 : decode cX1_init 82 = .ok (.anewarray 38, 3) := dk_189 0 38 (dk_at dksX1_init_3 12 rfl rfl)
theorem dX1_init_85 : decode cX1_init 85 = .ok (.putfield 40, 3) := dk_181 0 40 (dk_at dksX1_init_3 15 rfl rfl)
theorem dX1_init_88 : decode cX1_init 88 = .ok (.aload_n 0, 1) := dk_42 (dk_at dksX1_init_3 18 rfl rfl)
theorem dX1_init_89 : decode cX1_init 89 = .ok (.getfield 9, 3) := dk_180 0 9 (dk_at dksX1_init_3 19 rfl rfl)
theorem dX1_init_92 : decode cX1_init 92 = .ok (.iconst 2, 1) := dk_5 (dk_at dksX1_init_3 22 rfl rfl)
theorem dX1_init_93 : decode cX1_init 93 = .ok (.iconst (-1), 1) := dk_2 (dk_at dksX1_init_3 23 rfl rfl)
theorem dX1_init_94 : decode cX1_init 94 = .ok (.iastore, 1) := dk_79 (dk_at dksX1_init_4 0 rfl rfl)
theorem dX1_init_95 : decode cX1_init 95 = .ok (.aload_n 0, 1) := dk_42 (dk_at dksX1_init_4 1 rfl rfl)
theorem dX1_init_96 : decode cX1_init 96 = .ok (.getfield 15, 3) := dk_180 0 15 (dk_at dksX1_init_4 2 rfl rfl)
theorem dX1_init_99 : decode cX1_init 99 = .ok (.iconst 1, 1) := dk_4 (dk_at dksX1_init_4 5 rfl rfl)
theorem dX1_init_100 : decode cX1_init 100 = .ok (.sipush 263, 3) := dk_17 1 7 (dk_at dksX1_init_4 6 rfl rfl)
theorem dX1_init_103 : decode cX1_init 103 = .ok (.iastore, 1) := dk_79 (dk_at dksX1_init_4 9 rfl rfl)
theorem dX1_init_104 : decode cX1_init 104 = .ok (.aload_n 0, 1) := dk_42 (dk_at dksX1_init_4 10 rfl rfl)
theorem dX1_init_105 : decode cX1_init 105 = .ok (.getfield 15, 3) := dk_180 0 15 (dk_at dksX1_init_4 11 rfl rfl)
theorem dX1_init_108 : decode cX1_init 108 = .ok (.iconst 2, 1) := dk_5 (dk_at dksX1_init_4 14 rfl rfl)
theorem dX1_init_109 : decode cX1_init 109 = .ok (.bipush 32, 2) := dk_16 32 (dk_at dksX1_init_4 15 rfl rfl)
theorem dX1_init_111 : decode cX1_init 111 = .ok (.iconst 1, 1) := dk_4 (dk_at dksX1_init_4 17 rfl rfl)
theorem dX1_init_112 : decode cX1_init 112 = .ok (.invokestatic 44, 3) := dk_184 0 44 (dk_at dksX1_init_4 18 rfl rfl)
theorem dX1_init_115 : decode cX1_init 115 = .ok (.aload_n 0, 1) := dk_42 (dk_at dksX1_init_4 21 rfl rfl)
theorem dX1_init_116 : decode cX1_init 116 = .ok (.getfield 15, 3) := dk_180 0 15 (dk_at dksX1_init_5 0 rfl rfl)
theorem dX1_init_119 : decode cX1_init 119 = .ok (.bipush 62, 2) := dk_16 62 (dk_at dksX1_init_5 3 rfl rfl)
theorem dX1_init_121 : decode cX1_init 121 = .ok (.bipush 69, 2) := dk_16 69 (dk_at dksX1_init_5 5 rfl rfl)
theorem dX1_init_123 : decode cX1_init 123 = .ok (.iconst (-1), 1) := dk_2 (dk_at dksX1_init_5 7 rfl rfl)
theorem dX1_init_124 : decode cX1_init 124 = .ok (.invokestatic 44, 3) := dk_184 0 44 (dk_at dksX1_init_5 8 rfl rfl)
theorem dX1_init_127 : decode cX1_init 127 = .ok (.iconst 0, 1) := dk_3 (dk_at dksX1_init_5 11 rfl rfl)
theorem dX1_init_128 : decode cX1_init 128 = .ok (.istore_n 1, 1) := dk_60 (dk_at dksX1_init_5 12 rfl rfl)
theorem dX1_init_129 : decode cX1_init 129 = .ok (.iload_n 1, 1) := dk_27 (dk_at dksX1_init_5 13 rfl rfl)
theorem dX1_init_130 : decode cX1_init 130 = .ok (.aload_n 0, 1) := dk_42 (dk_at dksX1_init_5 14 rfl rfl)
theorem dX1_init_131 : decode cX1_init 131 = .ok (.getfield 24, 3) := dk_180 0 24 (dk_at dksX1_init_5 15 rfl rfl)
theorem dX1_init_134 : decode cX1_init 134 = .ok (.arraylength, 1) := dk_190 (dk_at dksX1_init_5 18 rfl rfl)
theorem dX1_init_135 : decode cX1_init 135 = .ok (.if_icmp .ge 16, 3) := dk_162 0 16 (dk_at dksX1_init_5 19 rfl rfl)
theorem dX1_init_138 : decode cX1_init 138 = .ok (.aload_n 0, 1) := dk_42 (dk_at dksX1_init_5 22 rfl rfl)
theorem dX1_init_139 : decode cX1_init 139 = .ok (.getfield 24, 3) := dk_180 0 24 (dk_at dksX1_init_6 0 rfl rfl)
theorem dX1_init_142 : decode cX1_init 142 = .ok (.iload_n 1, 1) := dk_27 (dk_at dksX1_init_6 3 rfl rfl)
theorem dX1_init_143 : decode cX1_init 143 = .ok (.iload_n 1, 1) := dk_27 (dk_at dksX1_init_6 4 rfl rfl)
theorem dX1_init_144 : decode cX1_init 144 = .ok (.iastore, 1) := dk_79 (dk_at dksX1_init_6 5 rfl rfl)
theorem dX1_init_145 : decode cX1_init 145 = .ok (.iinc 1 1, 3) := dk_132 1 1 (dk_at dksX1_init_6 6 rfl rfl)
theorem dX1_init_148 : decode cX1_init 148 = .ok (.goto (-19), 3) := dk_167 255 237 (dk_at dksX1_init_6 9 rfl rfl)
theorem dX1_init_151 : decode cX1_init 151 = .ok (.return_, 1) := dk_177 (dk_at dksX1_init_6 12 rfl rfl)
abbrev cX1_be : ByteArray := prog_14_method_4_code
def yX1_be : MethodName := ⟨RX1, "be", "(LRailingsCount$State;)V"⟩
def dkwX1_be_4 : List UInt8 := [180, 0, 40, 3, 42, 180, 0, 40, 3, 7, 184, 0, 50, 177]
abbrev dktX1_be_4 : List UInt8 := dkwX1_be_4 ++ []
def dkwX1_be_3 : List UInt8 := [180, 0, 32, 42, 180, 0, 32, 184, 0, 60, 43, 180, 0, 35, 42, 180, 0, 35, 184, 0, 60, 43]
abbrev dktX1_be_3 : List UInt8 := dkwX1_be_3 ++ dktX1_be_4
def dkwX1_be_2 : List UInt8 := [180, 0, 24, 42, 180, 0, 24, 184, 0, 56, 43, 180, 0, 29, 42, 180, 0, 29, 184, 0, 60, 43]
abbrev dktX1_be_2 : List UInt8 := dkwX1_be_2 ++ dktX1_be_3
def dkwX1_be_1 : List UInt8 := [180, 0, 18, 42, 180, 0, 18, 184, 0, 56, 43, 180, 0, 21, 42, 180, 0, 21, 184, 0, 56, 43]
abbrev dktX1_be_1 : List UInt8 := dkwX1_be_1 ++ dktX1_be_2
def dkwX1_be_0 : List UInt8 := [43, 180, 0, 9, 42, 180, 0, 9, 184, 0, 56, 43, 180, 0, 15, 42, 180, 0, 15, 184, 0, 56, 43]
abbrev dktX1_be_0 : List UInt8 := dkwX1_be_0 ++ dktX1_be_1
theorem dksX1_be_0 : cX1_be.data.toList.drop 0 = dktX1_be_0 := by decide +kernel
theorem dksX1_be_1 : cX1_be.data.toList.drop 23 = dktX1_be_1 := dk_seg dksX1_be_0 23 rfl rfl
theorem dksX1_be_2 : cX1_be.data.toList.drop 45 = dktX1_be_2 := dk_seg dksX1_be_1 22 rfl rfl
theorem dksX1_be_3 : cX1_be.data.toList.drop 67 = dktX1_be_3 := dk_seg dksX1_be_2 22 rfl rfl
theorem dksX1_be_4 : cX1_be.data.toList.drop 89 = dktX1_be_4 := dk_seg dksX1_be_3 22 rfl rfl
theorem dX1_be_0 : decode cX1_be 0 = .ok (.aload_n 1, 1) := dk_43 (dk_at dksX1_be_0 0 rfl rfl)
theorem dX1_be_1 : decode cX1_be 1 = .ok (.getfield 9, 3) := dk_180 0 9 (dk_at dksX1_be_0 1 rfl rfl)
theorem dX1_be_4 : decode cX1_be 4 = .ok (.aload_n 0, 1) := dk_42 (dk_at dksX1_be_0 4 rfl rfl)
theorem dX1_be_5 : decode cX1_be 5 = .ok (.getfield 9, 3) := dk_180 0 9 (dk_at dksX1_be_0 5 rfl rfl)
theorem dX1_be_8 : decode cX1_be 8 = .ok (.invokestatic 56, 3) := dk_184 0 56 (dk_at dksX1_be_0 8 rfl rfl)
theorem dX1_be_11 : decode cX1_be 11 = .ok (.aload_n 1, 1) := dk_43 (dk_at dksX1_be_0 11 rfl rfl)
theorem dX1_be_12 : decode cX1_be 12 = .ok (.getfield 15, 3) := dk_180 0 15 (dk_at dksX1_be_0 12 rfl rfl)
theorem dX1_be_15 : decode cX1_be 15 = .ok (.aload_n 0, 1) := dk_42 (dk_at dksX1_be_0 15 rfl rfl)
theorem dX1_be_16 : decode cX1_be 16 = .ok (.getfield 15, 3) := dk_180 0 15 (dk_at dksX1_be_0 16 rfl rfl)
theorem dX1_be_19 : decode cX1_be 19 = .ok (.invokestatic 56, 3) := dk_184 0 56 (dk_at dksX1_be_0 19 rfl rfl)
theorem dX1_be_22 : decode cX1_be 22 = .ok (.aload_n 1, 1) := dk_43 (dk_at dksX1_be_0 22 rfl rfl)
theorem dX1_be_23 : decode cX1_be 23 = .ok (.getfield 18, 3) := dk_180 0 18 (dk_at dksX1_be_1 0 rfl rfl)
theorem dX1_be_26 : decode cX1_be 26 = .ok (.aload_n 0, 1) := dk_42 (dk_at dksX1_be_1 3 rfl rfl)
theorem dX1_be_27 : decode cX1_be 27 = .ok (.getfield 18, 3) := dk_180 0 18 (dk_at dksX1_be_1 4 rfl rfl)
theorem dX1_be_30 : decode cX1_be 30 = .ok (.invokestatic 56, 3) := dk_184 0 56 (dk_at dksX1_be_1 7 rfl rfl)
theorem dX1_be_33 : decode cX1_be 33 = .ok (.aload_n 1, 1) := dk_43 (dk_at dksX1_be_1 10 rfl rfl)
theorem dX1_be_34 : decode cX1_be 34 = .ok (.getfield 21, 3) := dk_180 0 21 (dk_at dksX1_be_1 11 rfl rfl)
theorem dX1_be_37 : decode cX1_be 37 = .ok (.aload_n 0, 1) := dk_42 (dk_at dksX1_be_1 14 rfl rfl)
theorem dX1_be_38 : decode cX1_be 38 = .ok (.getfield 21, 3) := dk_180 0 21 (dk_at dksX1_be_1 15 rfl rfl)
theorem dX1_be_41 : decode cX1_be 41 = .ok (.invokestatic 56, 3) := dk_184 0 56 (dk_at dksX1_be_1 18 rfl rfl)
theorem dX1_be_44 : decode cX1_be 44 = .ok (.aload_n 1, 1) := dk_43 (dk_at dksX1_be_1 21 rfl rfl)
theorem dX1_be_45 : decode cX1_be 45 = .ok (.getfield 24, 3) := dk_180 0 24 (dk_at dksX1_be_2 0 rfl rfl)
theorem dX1_be_48 : decode cX1_be 48 = .ok (.aload_n 0, 1) := dk_42 (dk_at dksX1_be_2 3 rfl rfl)
theorem dX1_be_49 : decode cX1_be 49 = .ok (.getfield 24, 3) := dk_180 0 24 (dk_at dksX1_be_2 4 rfl rfl)
theorem dX1_be_52 : decode cX1_be 52 = .ok (.invokestatic 56, 3) := dk_184 0 56 (dk_at dksX1_be_2 7 rfl rfl)
theorem dX1_be_55 : decode cX1_be 55 = .ok (.aload_n 1, 1) := dk_43 (dk_at dksX1_be_2 10 rfl rfl)
theorem dX1_be_56 : decode cX1_be 56 = .ok (.getfield 29, 3) := dk_180 0 29 (dk_at dksX1_be_2 11 rfl rfl)
theorem dX1_be_59 : decode cX1_be 59 = .ok (.aload_n 0, 1) := dk_42 (dk_at dksX1_be_2 14 rfl rfl)
theorem dX1_be_60 : decode cX1_be 60 = .ok (.getfield 29, 3) := dk_180 0 29 (dk_at dksX1_be_2 15 rfl rfl)
theorem dX1_be_63 : decode cX1_be 63 = .ok (.invokestatic 60, 3) := dk_184 0 60 (dk_at dksX1_be_2 18 rfl rfl)
theorem dX1_be_66 : decode cX1_be 66 = .ok (.aload_n 1, 1) := dk_43 (dk_at dksX1_be_2 21 rfl rfl)
theorem dX1_be_67 : decode cX1_be 67 = .ok (.getfield 32, 3) := dk_180 0 32 (dk_at dksX1_be_3 0 rfl rfl)
theorem dX1_be_70 : decode cX1_be 70 = .ok (.aload_n 0, 1) := dk_42 (dk_at dksX1_be_3 3 rfl rfl)
theorem dX1_be_71 : decode cX1_be 71 = .ok (.getfield 32, 3) := dk_180 0 32 (dk_at dksX1_be_3 4 rfl rfl)
theorem dX1_be_74 : decode cX1_be 74 = .ok (.invokestatic 60, 3) := dk_184 0 60 (dk_at dksX1_be_3 7 rfl rfl)
theorem dX1_be_77 : decode cX1_be 77 = .ok (.aload_n 1, 1) := dk_43 (dk_at dksX1_be_3 10 rfl rfl)
theorem dX1_be_78 : decode cX1_be 78 = .ok (.getfield 35, 3) := dk_180 0 35 (dk_at dksX1_be_3 11 rfl rfl)
theorem dX1_be_81 : decode cX1_be 81 = .ok (.aload_n 0, 1) := dk_42 (dk_at dksX1_be_3 14 rfl rfl)
theorem dX1_be_82 : decode cX1_be 82 = .ok (.getfield 35, 3) := dk_180 0 35 (dk_at dksX1_be_3 15 rfl rfl)
theorem dX1_be_85 : decode cX1_be 85 = .ok (.invokestatic 60, 3) := dk_184 0 60 (dk_at dksX1_be_3 18 rfl rfl)
theorem dX1_be_88 : decode cX1_be 88 = .ok (.aload_n 1, 1) := dk_43 (dk_at dksX1_be_3 21 rfl rfl)
theorem dX1_be_89 : decode cX1_be 89 = .ok (.getfield 40, 3) := dk_180 0 40 (dk_at dksX1_be_4 0 rfl rfl)
theorem dX1_be_92 : decode cX1_be 92 = .ok (.iconst 0, 1) := dk_3 (dk_at dksX1_be_4 3 rfl rfl)
theorem dX1_be_93 : decode cX1_be 93 = .ok (.aload_n 0, 1) := dk_42 (dk_at dksX1_be_4 4 rfl rfl)
theorem dX1_be_94 : decode cX1_be 94 = .ok (.getfield 40, 3) := dk_180 0 40 (dk_at dksX1_be_4 5 rfl rfl)
theorem dX1_be_97 : decode cX1_be 97 = .ok (.iconst 0, 1) := dk_3 (dk_at dksX1_be_4 8 rfl rfl)
theorem dX1_be_98 : decode cX1_be 98 = .ok (.iconst 4, 1) := dk_7 (dk_at dksX1_be_4 9 rfl rfl)
theorem dX1_be_99 : decode cX1_be 99 = .ok (.invokestatic 50, 3) := dk_184 0 50 (dk_at dksX1_be_4 10 rfl rfl)
theorem dX1_be_102 : decode cX1_be 102 = .ok (.return_, 1) := dk_177 (dk_at dksX1_be_4 13 rfl rfl)
abbrev cX1_copy : ByteArray := prog_14_method_2_code
def yX1_copy : MethodName := ⟨RX1, "copy", "([I[I)V"⟩
def dkwX1_copy_0 : List UInt8 := [42, 3, 43, 3, 42, 190, 184, 0, 50, 177]
abbrev dktX1_copy_0 : List UInt8 := dkwX1_copy_0 ++ []
theorem dksX1_copy_0 : cX1_copy.data.toList.drop 0 = dktX1_copy_0 := by decide +kernel
theorem dX1_copy_0 : decode cX1_copy 0 = .ok (.aload_n 0, 1) := dk_42 (dk_at dksX1_copy_0 0 rfl rfl)
theorem dX1_copy_1 : decode cX1_copy 1 = .ok (.iconst 0, 1) := dk_3 (dk_at dksX1_copy_0 1 rfl rfl)
theorem dX1_copy_2 : decode cX1_copy 2 = .ok (.aload_n 1, 1) := dk_43 (dk_at dksX1_copy_0 2 rfl rfl)
theorem dX1_copy_3 : decode cX1_copy 3 = .ok (.iconst 0, 1) := dk_3 (dk_at dksX1_copy_0 3 rfl rfl)
theorem dX1_copy_4 : decode cX1_copy 4 = .ok (.aload_n 0, 1) := dk_42 (dk_at dksX1_copy_0 4 rfl rfl)
theorem dX1_copy_5 : decode cX1_copy 5 = .ok (.arraylength, 1) := dk_190 (dk_at dksX1_copy_0 5 rfl rfl)
theorem dX1_copy_6 : decode cX1_copy 6 = .ok (.invokestatic 50, 3) := dk_184 0 50 (dk_at dksX1_copy_0 6 rfl rfl)
theorem dX1_copy_9 : decode cX1_copy 9 = .ok (.return_, 1) := dk_177 (dk_at dksX1_copy_0 9 rfl rfl)
abbrev cX1_copy_2 : ByteArray := prog_14_method_3_code
def yX1_copy_2 : MethodName := ⟨RX1, "copy", "([[I[[I)V"⟩
def dkwX1_copy_2_0 : List UInt8 := [3, 61, 28, 42, 190, 162, 0, 18, 42, 28, 50, 43, 28, 50, 184, 0, 56, 132, 2, 1, 167, 255, 238, 177]
abbrev dktX1_copy_2_0 : List UInt8 := dkwX1_copy_2_0 ++ []
theorem dksX1_copy_2_0 : cX1_copy_2.data.toList.drop 0 = dktX1_copy_2_0 := by decide +kernel
theorem dX1_copy_2_0 : decode cX1_copy_2 0 = .ok (.iconst 0, 1) := dk_3 (dk_at dksX1_copy_2_0 0 rfl rfl)
theorem dX1_copy_2_1 : decode cX1_copy_2 1 = .ok (.istore_n 2, 1) := dk_61 (dk_at dksX1_copy_2_0 1 rfl rfl)
theorem dX1_copy_2_2 : decode cX1_copy_2 2 = .ok (.iload_n 2, 1) := dk_28 (dk_at dksX1_copy_2_0 2 rfl rfl)
theorem dX1_copy_2_3 : decode cX1_copy_2 3 = .ok (.aload_n 0, 1) := dk_42 (dk_at dksX1_copy_2_0 3 rfl rfl)
theorem dX1_copy_2_4 : decode cX1_copy_2 4 = .ok (.arraylength, 1) := dk_190 (dk_at dksX1_copy_2_0 4 rfl rfl)
theorem dX1_copy_2_5 : decode cX1_copy_2 5 = .ok (.if_icmp .ge 18, 3) := dk_162 0 18 (dk_at dksX1_copy_2_0 5 rfl rfl)
theorem dX1_copy_2_8 : decode cX1_copy_2 8 = .ok (.aload_n 0, 1) := dk_42 (dk_at dksX1_copy_2_0 8 rfl rfl)
theorem dX1_copy_2_9 : decode cX1_copy_2 9 = .ok (.iload_n 2, 1) := dk_28 (dk_at dksX1_copy_2_0 9 rfl rfl)
theorem dX1_copy_2_10 : decode cX1_copy_2 10 = .ok (.aaload, 1) := dk_50 (dk_at dksX1_copy_2_0 10 rfl rfl)
theorem dX1_copy_2_11 : decode cX1_copy_2 11 = .ok (.aload_n 1, 1) := dk_43 (dk_at dksX1_copy_2_0 11 rfl rfl)
theorem dX1_copy_2_12 : decode cX1_copy_2 12 = .ok (.iload_n 2, 1) := dk_28 (dk_at dksX1_copy_2_0 12 rfl rfl)
theorem dX1_copy_2_13 : decode cX1_copy_2 13 = .ok (.aaload, 1) := dk_50 (dk_at dksX1_copy_2_0 13 rfl rfl)
theorem dX1_copy_2_14 : decode cX1_copy_2 14 = .ok (.invokestatic 56, 3) := dk_184 0 56 (dk_at dksX1_copy_2_0 14 rfl rfl)
theorem dX1_copy_2_17 : decode cX1_copy_2 17 = .ok (.iinc 2 1, 3) := dk_132 2 1 (dk_at dksX1_copy_2_0 17 rfl rfl)
theorem dX1_copy_2_20 : decode cX1_copy_2 20 = .ok (.goto (-18), 3) := dk_167 255 238 (dk_at dksX1_copy_2_0 20 rfl rfl)
theorem dX1_copy_2_23 : decode cX1_copy_2 23 = .ok (.return_, 1) := dk_177 (dk_at dksX1_copy_2_0 23 rfl rfl)
abbrev cX1_tells : ByteArray := prog_14_method_6_code
def yX1_tells : MethodName := ⟨RX1, "tells", "(II)V"⟩
def dkwX1_tells_1 : List UInt8 := [50, 27, 28, 79, 132, 3, 1, 167, 255, 234, 177]
abbrev dktX1_tells_1 : List UInt8 := dkwX1_tells_1 ++ []
def dkwX1_tells_0 : List UInt8 := [42, 180, 0, 15, 27, 28, 79, 3, 62, 29, 42, 180, 0, 9, 6, 46, 162, 0, 18, 42, 180, 0, 35, 29]
abbrev dktX1_tells_0 : List UInt8 := dkwX1_tells_0 ++ dktX1_tells_1
theorem dksX1_tells_0 : cX1_tells.data.toList.drop 0 = dktX1_tells_0 := by decide +kernel
theorem dksX1_tells_1 : cX1_tells.data.toList.drop 24 = dktX1_tells_1 := dk_seg dksX1_tells_0 24 rfl rfl
theorem dX1_tells_0 : decode cX1_tells 0 = .ok (.aload_n 0, 1) := dk_42 (dk_at dksX1_tells_0 0 rfl rfl)
theorem dX1_tells_1 : decode cX1_tells 1 = .ok (.getfield 15, 3) := dk_180 0 15 (dk_at dksX1_tells_0 1 rfl rfl)
theorem dX1_tells_4 : decode cX1_tells 4 = .ok (.iload_n 1, 1) := dk_27 (dk_at dksX1_tells_0 4 rfl rfl)
theorem dX1_tells_5 : decode cX1_tells 5 = .ok (.iload_n 2, 1) := dk_28 (dk_at dksX1_tells_0 5 rfl rfl)
theorem dX1_tells_6 : decode cX1_tells 6 = .ok (.iastore, 1) := dk_79 (dk_at dksX1_tells_0 6 rfl rfl)
theorem dX1_tells_7 : decode cX1_tells 7 = .ok (.iconst 0, 1) := dk_3 (dk_at dksX1_tells_0 7 rfl rfl)
theorem dX1_tells_8 : decode cX1_tells 8 = .ok (.istore_n 3, 1) := dk_62 (dk_at dksX1_tells_0 8 rfl rfl)
theorem dX1_tells_9 : decode cX1_tells 9 = .ok (.iload_n 3, 1) := dk_29 (dk_at dksX1_tells_0 9 rfl rfl)
theorem dX1_tells_10 : decode cX1_tells 10 = .ok (.aload_n 0, 1) := dk_42 (dk_at dksX1_tells_0 10 rfl rfl)
theorem dX1_tells_11 : decode cX1_tells 11 = .ok (.getfield 9, 3) := dk_180 0 9 (dk_at dksX1_tells_0 11 rfl rfl)
theorem dX1_tells_14 : decode cX1_tells 14 = .ok (.iconst 3, 1) := dk_6 (dk_at dksX1_tells_0 14 rfl rfl)
theorem dX1_tells_15 : decode cX1_tells 15 = .ok (.iaload, 1) := dk_46 (dk_at dksX1_tells_0 15 rfl rfl)
theorem dX1_tells_16 : decode cX1_tells 16 = .ok (.if_icmp .ge 18, 3) := dk_162 0 18 (dk_at dksX1_tells_0 16 rfl rfl)
theorem dX1_tells_19 : decode cX1_tells 19 = .ok (.aload_n 0, 1) := dk_42 (dk_at dksX1_tells_0 19 rfl rfl)
theorem dX1_tells_20 : decode cX1_tells 20 = .ok (.getfield 35, 3) := dk_180 0 35 (dk_at dksX1_tells_0 20 rfl rfl)
theorem dX1_tells_23 : decode cX1_tells 23 = .ok (.iload_n 3, 1) := dk_29 (dk_at dksX1_tells_0 23 rfl rfl)
theorem dX1_tells_24 : decode cX1_tells 24 = .ok (.aaload, 1) := dk_50 (dk_at dksX1_tells_1 0 rfl rfl)
theorem dX1_tells_25 : decode cX1_tells 25 = .ok (.iload_n 1, 1) := dk_27 (dk_at dksX1_tells_1 1 rfl rfl)
theorem dX1_tells_26 : decode cX1_tells 26 = .ok (.iload_n 2, 1) := dk_28 (dk_at dksX1_tells_1 2 rfl rfl)
theorem dX1_tells_27 : decode cX1_tells 27 = .ok (.iastore, 1) := dk_79 (dk_at dksX1_tells_1 3 rfl rfl)
theorem dX1_tells_28 : decode cX1_tells 28 = .ok (.iinc 3 1, 3) := dk_132 3 1 (dk_at dksX1_tells_1 4 rfl rfl)
theorem dX1_tells_31 : decode cX1_tells 31 = .ok (.goto (-22), 3) := dk_167 255 234 (dk_at dksX1_tells_1 7 rfl rfl)
theorem dX1_tells_34 : decode cX1_tells 34 = .ok (.return_, 1) := dk_177 (dk_at dksX1_tells_1 10 rfl rfl)
abbrev cX1_keeps : ByteArray := prog_14_method_5_code
def yX1_keeps : MethodName := ⟨RX1, "keeps", "()V"⟩
def dkwX1_keeps_3 : List UInt8 := [180, 0, 9, 6, 92, 46, 4, 96, 79, 177]
abbrev dktX1_keeps_3 : List UInt8 := dkwX1_keeps_3 ++ []
def dkwX1_keeps_2 : List UInt8 := [46, 4, 100, 79, 42, 180, 0, 15, 42, 180, 0, 35, 42, 180, 0, 9, 6, 46, 50, 184, 0, 56, 42]
abbrev dktX1_keeps_2 : List UInt8 := dkwX1_keeps_2 ++ dktX1_keeps_3
def dkwX1_keeps_1 : List UInt8 := [50, 42, 180, 0, 35, 27, 4, 100, 50, 184, 0, 56, 132, 1, 1, 167, 255, 230, 42, 180, 0, 9, 6, 92]
abbrev dktX1_keeps_1 : List UInt8 := dkwX1_keeps_1 ++ dktX1_keeps_2
def dkwX1_keeps_0 : List UInt8 := [42, 180, 0, 9, 6, 46, 16, 30, 160, 0, 44, 4, 60, 27, 16, 30, 162, 0, 26, 42, 180, 0, 35, 27]
abbrev dktX1_keeps_0 : List UInt8 := dkwX1_keeps_0 ++ dktX1_keeps_1
theorem dksX1_keeps_0 : cX1_keeps.data.toList.drop 0 = dktX1_keeps_0 := by decide +kernel
theorem dksX1_keeps_1 : cX1_keeps.data.toList.drop 24 = dktX1_keeps_1 := dk_seg dksX1_keeps_0 24 rfl rfl
theorem dksX1_keeps_2 : cX1_keeps.data.toList.drop 48 = dktX1_keeps_2 := dk_seg dksX1_keeps_1 24 rfl rfl
theorem dksX1_keeps_3 : cX1_keeps.data.toList.drop 71 = dktX1_keeps_3 := dk_seg dksX1_keeps_2 23 rfl rfl
theorem dX1_keeps_0 : decode cX1_keeps 0 = .ok (.aload_n 0, 1) := dk_42 (dk_at dksX1_keeps_0 0 rfl rfl)
theorem dX1_keeps_1 : decode cX1_keeps 1 = .ok (.getfield 9, 3) := dk_180 0 9 (dk_at dksX1_keeps_0 1 rfl rfl)
theorem dX1_keeps_4 : decode cX1_keeps 4 = .ok (.iconst 3, 1) := dk_6 (dk_at dksX1_keeps_0 4 rfl rfl)
theorem dX1_keeps_5 : decode cX1_keeps 5 = .ok (.iaload, 1) := dk_46 (dk_at dksX1_keeps_0 5 rfl rfl)
theorem dX1_keeps_6 : decode cX1_keeps 6 = .ok (.bipush 30, 2) := dk_16 30 (dk_at dksX1_keeps_0 6 rfl rfl)
theorem dX1_keeps_8 : decode cX1_keeps 8 = .ok (.if_icmp .ne 44, 3) := dk_160 0 44 (dk_at dksX1_keeps_0 8 rfl rfl)
theorem dX1_keeps_11 : decode cX1_keeps 11 = .ok (.iconst 1, 1) := dk_4 (dk_at dksX1_keeps_0 11 rfl rfl)
theorem dX1_keeps_12 : decode cX1_keeps 12 = .ok (.istore_n 1, 1) := dk_60 (dk_at dksX1_keeps_0 12 rfl rfl)
theorem dX1_keeps_13 : decode cX1_keeps 13 = .ok (.iload_n 1, 1) := dk_27 (dk_at dksX1_keeps_0 13 rfl rfl)
theorem dX1_keeps_14 : decode cX1_keeps 14 = .ok (.bipush 30, 2) := dk_16 30 (dk_at dksX1_keeps_0 14 rfl rfl)
theorem dX1_keeps_16 : decode cX1_keeps 16 = .ok (.if_icmp .ge 26, 3) := dk_162 0 26 (dk_at dksX1_keeps_0 16 rfl rfl)
theorem dX1_keeps_19 : decode cX1_keeps 19 = .ok (.aload_n 0, 1) := dk_42 (dk_at dksX1_keeps_0 19 rfl rfl)
theorem dX1_keeps_20 : decode cX1_keeps 20 = .ok (.getfield 35, 3) := dk_180 0 35 (dk_at dksX1_keeps_0 20 rfl rfl)
theorem dX1_keeps_23 : decode cX1_keeps 23 = .ok (.iload_n 1, 1) := dk_27 (dk_at dksX1_keeps_0 23 rfl rfl)
theorem dX1_keeps_24 : decode cX1_keeps 24 = .ok (.aaload, 1) := dk_50 (dk_at dksX1_keeps_1 0 rfl rfl)
theorem dX1_keeps_25 : decode cX1_keeps 25 = .ok (.aload_n 0, 1) := dk_42 (dk_at dksX1_keeps_1 1 rfl rfl)
theorem dX1_keeps_26 : decode cX1_keeps 26 = .ok (.getfield 35, 3) := dk_180 0 35 (dk_at dksX1_keeps_1 2 rfl rfl)
theorem dX1_keeps_29 : decode cX1_keeps 29 = .ok (.iload_n 1, 1) := dk_27 (dk_at dksX1_keeps_1 5 rfl rfl)
theorem dX1_keeps_30 : decode cX1_keeps 30 = .ok (.iconst 1, 1) := dk_4 (dk_at dksX1_keeps_1 6 rfl rfl)
theorem dX1_keeps_31 : decode cX1_keeps 31 = .ok (.isub, 1) := dk_100 (dk_at dksX1_keeps_1 7 rfl rfl)
theorem dX1_keeps_32 : decode cX1_keeps 32 = .ok (.aaload, 1) := dk_50 (dk_at dksX1_keeps_1 8 rfl rfl)
theorem dX1_keeps_33 : decode cX1_keeps 33 = .ok (.invokestatic 56, 3) := dk_184 0 56 (dk_at dksX1_keeps_1 9 rfl rfl)
theorem dX1_keeps_36 : decode cX1_keeps 36 = .ok (.iinc 1 1, 3) := dk_132 1 1 (dk_at dksX1_keeps_1 12 rfl rfl)
theorem dX1_keeps_39 : decode cX1_keeps 39 = .ok (.goto (-26), 3) := dk_167 255 230 (dk_at dksX1_keeps_1 15 rfl rfl)
theorem dX1_keeps_42 : decode cX1_keeps 42 = .ok (.aload_n 0, 1) := dk_42 (dk_at dksX1_keeps_1 18 rfl rfl)
theorem dX1_keeps_43 : decode cX1_keeps 43 = .ok (.getfield 9, 3) := dk_180 0 9 (dk_at dksX1_keeps_1 19 rfl rfl)
theorem dX1_keeps_46 : decode cX1_keeps 46 = .ok (.iconst 3, 1) := dk_6 (dk_at dksX1_keeps_1 22 rfl rfl)
theorem dX1_keeps_47 : decode cX1_keeps 47 = .ok (.dup2, 1) := dk_92 (dk_at dksX1_keeps_1 23 rfl rfl)
theorem dX1_keeps_48 : decode cX1_keeps 48 = .ok (.iaload, 1) := dk_46 (dk_at dksX1_keeps_2 0 rfl rfl)
theorem dX1_keeps_49 : decode cX1_keeps 49 = .ok (.iconst 1, 1) := dk_4 (dk_at dksX1_keeps_2 1 rfl rfl)
theorem dX1_keeps_50 : decode cX1_keeps 50 = .ok (.isub, 1) := dk_100 (dk_at dksX1_keeps_2 2 rfl rfl)
theorem dX1_keeps_51 : decode cX1_keeps 51 = .ok (.iastore, 1) := dk_79 (dk_at dksX1_keeps_2 3 rfl rfl)
theorem dX1_keeps_52 : decode cX1_keeps 52 = .ok (.aload_n 0, 1) := dk_42 (dk_at dksX1_keeps_2 4 rfl rfl)
theorem dX1_keeps_53 : decode cX1_keeps 53 = .ok (.getfield 15, 3) := dk_180 0 15 (dk_at dksX1_keeps_2 5 rfl rfl)
theorem dX1_keeps_56 : decode cX1_keeps 56 = .ok (.aload_n 0, 1) := dk_42 (dk_at dksX1_keeps_2 8 rfl rfl)
theorem dX1_keeps_57 : decode cX1_keeps 57 = .ok (.getfield 35, 3) := dk_180 0 35 (dk_at dksX1_keeps_2 9 rfl rfl)
theorem dX1_keeps_60 : decode cX1_keeps 60 = .ok (.aload_n 0, 1) := dk_42 (dk_at dksX1_keeps_2 12 rfl rfl)
theorem dX1_keeps_61 : decode cX1_keeps 61 = .ok (.getfield 9, 3) := dk_180 0 9 (dk_at dksX1_keeps_2 13 rfl rfl)
theorem dX1_keeps_64 : decode cX1_keeps 64 = .ok (.iconst 3, 1) := dk_6 (dk_at dksX1_keeps_2 16 rfl rfl)
theorem dX1_keeps_65 : decode cX1_keeps 65 = .ok (.iaload, 1) := dk_46 (dk_at dksX1_keeps_2 17 rfl rfl)
theorem dX1_keeps_66 : decode cX1_keeps 66 = .ok (.aaload, 1) := dk_50 (dk_at dksX1_keeps_2 18 rfl rfl)
theorem dX1_keeps_67 : decode cX1_keeps 67 = .ok (.invokestatic 56, 3) := dk_184 0 56 (dk_at dksX1_keeps_2 19 rfl rfl)
theorem dX1_keeps_70 : decode cX1_keeps 70 = .ok (.aload_n 0, 1) := dk_42 (dk_at dksX1_keeps_2 22 rfl rfl)
theorem dX1_keeps_71 : decode cX1_keeps 71 = .ok (.getfield 9, 3) := dk_180 0 9 (dk_at dksX1_keeps_3 0 rfl rfl)
theorem dX1_keeps_74 : decode cX1_keeps 74 = .ok (.iconst 3, 1) := dk_6 (dk_at dksX1_keeps_3 3 rfl rfl)
theorem dX1_keeps_75 : decode cX1_keeps 75 = .ok (.dup2, 1) := dk_92 (dk_at dksX1_keeps_3 4 rfl rfl)
theorem dX1_keeps_76 : decode cX1_keeps 76 = .ok (.iaload, 1) := dk_46 (dk_at dksX1_keeps_3 5 rfl rfl)
theorem dX1_keeps_77 : decode cX1_keeps 77 = .ok (.iconst 1, 1) := dk_4 (dk_at dksX1_keeps_3 6 rfl rfl)
theorem dX1_keeps_78 : decode cX1_keeps 78 = .ok (.iadd, 1) := dk_96 (dk_at dksX1_keeps_3 7 rfl rfl)
theorem dX1_keeps_79 : decode cX1_keeps 79 = .ok (.iastore, 1) := dk_79 (dk_at dksX1_keeps_3 8 rfl rfl)
theorem dX1_keeps_80 : decode cX1_keeps 80 = .ok (.return_, 1) := dk_177 (dk_at dksX1_keeps_3 9 rfl rfl)
abbrev cX1_clears : ByteArray := prog_14_method_8_code
def yX1_clears : MethodName := ⟨RX1, "clears", "(I)I"⟩
def dkwX1_clears_0 : List UInt8 := [42, 180, 0, 9, 27, 3, 79, 3, 172]
abbrev dktX1_clears_0 : List UInt8 := dkwX1_clears_0 ++ []
theorem dksX1_clears_0 : cX1_clears.data.toList.drop 0 = dktX1_clears_0 := by decide +kernel
theorem dX1_clears_0 : decode cX1_clears 0 = .ok (.aload_n 0, 1) := dk_42 (dk_at dksX1_clears_0 0 rfl rfl)
theorem dX1_clears_1 : decode cX1_clears 1 = .ok (.getfield 9, 3) := dk_180 0 9 (dk_at dksX1_clears_0 1 rfl rfl)
theorem dX1_clears_4 : decode cX1_clears 4 = .ok (.iload_n 1, 1) := dk_27 (dk_at dksX1_clears_0 4 rfl rfl)
theorem dX1_clears_5 : decode cX1_clears 5 = .ok (.iconst 0, 1) := dk_3 (dk_at dksX1_clears_0 5 rfl rfl)
theorem dX1_clears_6 : decode cX1_clears 6 = .ok (.iastore, 1) := dk_79 (dk_at dksX1_clears_0 6 rfl rfl)
theorem dX1_clears_7 : decode cX1_clears 7 = .ok (.iconst 0, 1) := dk_3 (dk_at dksX1_clears_0 7 rfl rfl)
theorem dX1_clears_8 : decode cX1_clears 8 = .ok (.ireturn, 1) := dk_172 (dk_at dksX1_clears_0 8 rfl rfl)
abbrev cX1_adds : ByteArray := prog_14_method_7_code
def yX1_adds : MethodName := ⟨RX1, "adds", "([[IIIII)I"⟩
def dkwX1_adds_2 : List UInt8 := [46, 172]
abbrev dktX1_adds_2 : List UInt8 := dkwX1_adds_2 ++ []
def dkwX1_adds_1 : List UInt8 := [180, 0, 9, 28, 46, 50, 184, 0, 56, 42, 180, 0, 9, 28, 92, 46, 4, 96, 79, 42, 180, 0, 9, 28]
abbrev dktX1_adds_1 : List UInt8 := dkwX1_adds_1 ++ dktX1_adds_2
def dkwX1_adds_0 : List UInt8 := [6, 188, 10, 89, 3, 29, 79, 89, 4, 21, 4, 79, 89, 5, 21, 5, 79, 58, 6, 25, 6, 43, 42]
abbrev dktX1_adds_0 : List UInt8 := dkwX1_adds_0 ++ dktX1_adds_1
theorem dksX1_adds_0 : cX1_adds.data.toList.drop 0 = dktX1_adds_0 := by decide +kernel
theorem dksX1_adds_1 : cX1_adds.data.toList.drop 23 = dktX1_adds_1 := dk_seg dksX1_adds_0 23 rfl rfl
theorem dksX1_adds_2 : cX1_adds.data.toList.drop 47 = dktX1_adds_2 := dk_seg dksX1_adds_1 24 rfl rfl
theorem dX1_adds_0 : decode cX1_adds 0 = .ok (.iconst 3, 1) := dk_6 (dk_at dksX1_adds_0 0 rfl rfl)
theorem dX1_adds_1 : decode cX1_adds 1 = .ok (.newarray .int, 2) := dk_188_10 (dk_at dksX1_adds_0 1 rfl rfl)
theorem dX1_adds_3 : decode cX1_adds 3 = .ok (.dup, 1) := dk_89 (dk_at dksX1_adds_0 3 rfl rfl)
theorem dX1_adds_4 : decode cX1_adds 4 = .ok (.iconst 0, 1) := dk_3 (dk_at dksX1_adds_0 4 rfl rfl)
theorem dX1_adds_5 : decode cX1_adds 5 = .ok (.iload_n 3, 1) := dk_29 (dk_at dksX1_adds_0 5 rfl rfl)
theorem dX1_adds_6 : decode cX1_adds 6 = .ok (.iastore, 1) := dk_79 (dk_at dksX1_adds_0 6 rfl rfl)
theorem dX1_adds_7 : decode cX1_adds 7 = .ok (.dup, 1) := dk_89 (dk_at dksX1_adds_0 7 rfl rfl)
theorem dX1_adds_8 : decode cX1_adds 8 = .ok (.iconst 1, 1) := dk_4 (dk_at dksX1_adds_0 8 rfl rfl)
theorem dX1_adds_9 : decode cX1_adds 9 = .ok (.iload 4, 2) := dk_21 4 (dk_at dksX1_adds_0 9 rfl rfl)
theorem dX1_adds_11 : decode cX1_adds 11 = .ok (.iastore, 1) := dk_79 (dk_at dksX1_adds_0 11 rfl rfl)
theorem dX1_adds_12 : decode cX1_adds 12 = .ok (.dup, 1) := dk_89 (dk_at dksX1_adds_0 12 rfl rfl)
theorem dX1_adds_13 : decode cX1_adds 13 = .ok (.iconst 2, 1) := dk_5 (dk_at dksX1_adds_0 13 rfl rfl)
theorem dX1_adds_14 : decode cX1_adds 14 = .ok (.iload 5, 2) := dk_21 5 (dk_at dksX1_adds_0 14 rfl rfl)
theorem dX1_adds_16 : decode cX1_adds 16 = .ok (.iastore, 1) := dk_79 (dk_at dksX1_adds_0 16 rfl rfl)
theorem dX1_adds_17 : decode cX1_adds 17 = .ok (.astore 6, 2) := dk_58 6 (dk_at dksX1_adds_0 17 rfl rfl)
theorem dX1_adds_19 : decode cX1_adds 19 = .ok (.aload 6, 2) := dk_25 6 (dk_at dksX1_adds_0 19 rfl rfl)
theorem dX1_adds_21 : decode cX1_adds 21 = .ok (.aload_n 1, 1) := dk_43 (dk_at dksX1_adds_0 21 rfl rfl)
theorem dX1_adds_22 : decode cX1_adds 22 = .ok (.aload_n 0, 1) := dk_42 (dk_at dksX1_adds_0 22 rfl rfl)
theorem dX1_adds_23 : decode cX1_adds 23 = .ok (.getfield 9, 3) := dk_180 0 9 (dk_at dksX1_adds_1 0 rfl rfl)
theorem dX1_adds_26 : decode cX1_adds 26 = .ok (.iload_n 2, 1) := dk_28 (dk_at dksX1_adds_1 3 rfl rfl)
theorem dX1_adds_27 : decode cX1_adds 27 = .ok (.iaload, 1) := dk_46 (dk_at dksX1_adds_1 4 rfl rfl)
theorem dX1_adds_28 : decode cX1_adds 28 = .ok (.aaload, 1) := dk_50 (dk_at dksX1_adds_1 5 rfl rfl)
theorem dX1_adds_29 : decode cX1_adds 29 = .ok (.invokestatic 56, 3) := dk_184 0 56 (dk_at dksX1_adds_1 6 rfl rfl)
theorem dX1_adds_32 : decode cX1_adds 32 = .ok (.aload_n 0, 1) := dk_42 (dk_at dksX1_adds_1 9 rfl rfl)
theorem dX1_adds_33 : decode cX1_adds 33 = .ok (.getfield 9, 3) := dk_180 0 9 (dk_at dksX1_adds_1 10 rfl rfl)
theorem dX1_adds_36 : decode cX1_adds 36 = .ok (.iload_n 2, 1) := dk_28 (dk_at dksX1_adds_1 13 rfl rfl)
theorem dX1_adds_37 : decode cX1_adds 37 = .ok (.dup2, 1) := dk_92 (dk_at dksX1_adds_1 14 rfl rfl)
theorem dX1_adds_38 : decode cX1_adds 38 = .ok (.iaload, 1) := dk_46 (dk_at dksX1_adds_1 15 rfl rfl)
theorem dX1_adds_39 : decode cX1_adds 39 = .ok (.iconst 1, 1) := dk_4 (dk_at dksX1_adds_1 16 rfl rfl)
theorem dX1_adds_40 : decode cX1_adds 40 = .ok (.iadd, 1) := dk_96 (dk_at dksX1_adds_1 17 rfl rfl)
theorem dX1_adds_41 : decode cX1_adds 41 = .ok (.iastore, 1) := dk_79 (dk_at dksX1_adds_1 18 rfl rfl)
theorem dX1_adds_42 : decode cX1_adds 42 = .ok (.aload_n 0, 1) := dk_42 (dk_at dksX1_adds_1 19 rfl rfl)
theorem dX1_adds_43 : decode cX1_adds 43 = .ok (.getfield 9, 3) := dk_180 0 9 (dk_at dksX1_adds_1 20 rfl rfl)
theorem dX1_adds_46 : decode cX1_adds 46 = .ok (.iload_n 2, 1) := dk_28 (dk_at dksX1_adds_1 23 rfl rfl)
theorem dX1_adds_47 : decode cX1_adds 47 = .ok (.iaload, 1) := dk_46 (dk_at dksX1_adds_2 0 rfl rfl)
theorem dX1_adds_48 : decode cX1_adds 48 = .ok (.ireturn, 1) := dk_172 (dk_at dksX1_adds_2 1 rfl rfl)
theorem q122 : (Jvm.Cond.initialized "RailingsCount$State") ∈ lw_all := lw_g (lw_at lw_m1 2 rfl) rfl
theorem q165 : (Jvm.Cond.instantiable "RailingsCount$State" (9 : Nat)) ∈ lw_all := lw_g (lw_at lw_m1 45 rfl) rfl
theorem q167 : (Jvm.Cond.instanceMethod ({ cls := "RailingsCount$State", name := "<init>", desc := "()V" } : Jvm.MethodName)) ∈ lw_all := lw_g (lw_at lw_m1 47 rfl) rfl
theorem q168 : (Jvm.Cond.code ({ cls := "RailingsCount$State", name := "<init>", desc := "()V" } : Jvm.MethodName) prog_14_method_1_code (2 : Nat) (Option.none : Option Jvm.ClassFile.FieldType)) ∈ lw_all := lw_g (lw_at lw_m1 48 rfl) rfl
theorem q169 : (Jvm.Cond.methodLink "RailingsCount$State" (3 : Nat) ({ cls := "java/lang/Object", name := "<init>", desc := "()V" } : Jvm.MethodName)) ∈ lw_all := lw_g (lw_at lw_m1 49 rfl) rfl
theorem q170 : (Jvm.Cond.classLink "RailingsCount$State" (27 : Nat) "[[I") ∈ lw_all := lw_g (lw_at lw_m1 50 rfl) rfl
theorem q172 : (Jvm.Cond.classLink "RailingsCount$State" (38 : Nat) "RailingsCount$Text") ∈ lw_all := lw_g (lw_at lw_m1 52 rfl) rfl
theorem q174 : (Jvm.Cond.methodLink "RailingsCount$State" (44 : Nat) ({ cls := "java/util/Arrays", name := "fill", desc := "([IIII)V" } : Jvm.MethodName)) ∈ lw_all := lw_g (lw_at lw_m1 54 rfl) rfl
theorem q180 : (Jvm.Cond.fieldLink "RailingsCount$State" (9 : Nat) "RailingsCount$State" "n" "[I") ∈ lw_all := lw_g (lw_at lw_m1 60 rfl) rfl
theorem q182 : (Jvm.Cond.fieldLink "RailingsCount$State" (15 : Nat) "RailingsCount$State" "row" "[I") ∈ lw_all := lw_g (lw_at lw_m1 62 rfl) rfl
theorem q184 : (Jvm.Cond.fieldLink "RailingsCount$State" (18 : Nat) "RailingsCount$State" "stride" "[I") ∈ lw_all := lw_g (lw_at lw_m1 64 rfl) rfl
theorem q186 : (Jvm.Cond.fieldLink "RailingsCount$State" (21 : Nat) "RailingsCount$State" "luck" "[I") ∈ lw_all := lw_g (lw_at lw_m1 66 rfl) rfl
theorem q188 : (Jvm.Cond.fieldLink "RailingsCount$State" (24 : Nat) "RailingsCount$State" "value" "[I") ∈ lw_all := lw_g (lw_at lw_m1 68 rfl) rfl
theorem q190 : (Jvm.Cond.fieldLink "RailingsCount$State" (29 : Nat) "RailingsCount$State" "telling" "[[I") ∈ lw_all := lw_g (lw_at lw_m1 70 rfl) rfl
theorem q192 : (Jvm.Cond.fieldLink "RailingsCount$State" (32 : Nat) "RailingsCount$State" "said" "[[I") ∈ lw_all := lw_g (lw_at lw_m1 72 rfl) rfl
theorem q194 : (Jvm.Cond.fieldLink "RailingsCount$State" (35 : Nat) "RailingsCount$State" "step" "[[I") ∈ lw_all := lw_g (lw_at lw_m1 74 rfl) rfl
theorem q196 : (Jvm.Cond.fieldLink "RailingsCount$State" (40 : Nat) "RailingsCount$State" "text" "[LRailingsCount$Text;") ∈ lw_all := lw_g (lw_at lw_m1 76 rfl) rfl
theorem q198 : (Jvm.Cond.laysFinal "RailingsCount$State" "RailingsCount$State" "n" "[I") ∈ lw_all := lw_g (lw_at lw_m1 78 rfl) rfl
theorem q199 : (Jvm.Cond.soleField "RailingsCount$State" "n") ∈ lw_all := lw_g (lw_at lw_m1 79 rfl) rfl
theorem q200 : (Jvm.Cond.laysFinal "RailingsCount$State" "RailingsCount$State" "row" "[I") ∈ lw_all := lw_g (lw_at lw_m1 80 rfl) rfl
theorem q201 : (Jvm.Cond.soleField "RailingsCount$State" "row") ∈ lw_all := lw_g (lw_at lw_m1 81 rfl) rfl
theorem q202 : (Jvm.Cond.laysFinal "RailingsCount$State" "RailingsCount$State" "stride" "[I") ∈ lw_all := lw_g (lw_at lw_m1 82 rfl) rfl
theorem q203 : (Jvm.Cond.soleField "RailingsCount$State" "stride") ∈ lw_all := lw_g (lw_at lw_m1 83 rfl) rfl
theorem q204 : (Jvm.Cond.laysFinal "RailingsCount$State" "RailingsCount$State" "luck" "[I") ∈ lw_all := lw_g (lw_at lw_m1 84 rfl) rfl
theorem q205 : (Jvm.Cond.soleField "RailingsCount$State" "luck") ∈ lw_all := lw_g (lw_at lw_m1 85 rfl) rfl
theorem q206 : (Jvm.Cond.laysFinal "RailingsCount$State" "RailingsCount$State" "value" "[I") ∈ lw_all := lw_g (lw_at lw_m1 86 rfl) rfl
theorem q207 : (Jvm.Cond.soleField "RailingsCount$State" "value") ∈ lw_all := lw_g (lw_at lw_m1 87 rfl) rfl
theorem q208 : (Jvm.Cond.laysFinal "RailingsCount$State" "RailingsCount$State" "telling" "[[I") ∈ lw_all := lw_g (lw_at lw_m1 88 rfl) rfl
theorem q209 : (Jvm.Cond.soleField "RailingsCount$State" "telling") ∈ lw_all := lw_g (lw_at lw_m1 89 rfl) rfl
theorem q210 : (Jvm.Cond.laysFinal "RailingsCount$State" "RailingsCount$State" "said" "[[I") ∈ lw_all := lw_g (lw_at lw_m1 90 rfl) rfl
theorem q211 : (Jvm.Cond.soleField "RailingsCount$State" "said") ∈ lw_all := lw_g (lw_at lw_m1 91 rfl) rfl
theorem q212 : (Jvm.Cond.laysFinal "RailingsCount$State" "RailingsCount$State" "step" "[[I") ∈ lw_all := lw_g (lw_at lw_m1 92 rfl) rfl
theorem q213 : (Jvm.Cond.soleField "RailingsCount$State" "step") ∈ lw_all := lw_g (lw_at lw_m1 93 rfl) rfl
theorem q214 : (Jvm.Cond.laysFinal "RailingsCount$State" "RailingsCount$State" "text" "[LRailingsCount$Text;") ∈ lw_all := lw_g (lw_at lw_m1 94 rfl) rfl
theorem q215 : (Jvm.Cond.soleField "RailingsCount$State" "text") ∈ lw_all := lw_g (lw_at lw_m1 95 rfl) rfl
theorem q216 : (Jvm.Cond.superclass "RailingsCount$State" "java/lang/Object") ∈ lw_all := lw_g (lw_at lw_m1 96 rfl) rfl
theorem q220 : (Jvm.Cond.instanceMethod ({ cls := "RailingsCount$State", name := "be", desc := "(LRailingsCount$State;)V" } : Jvm.MethodName)) ∈ lw_all := lw_g (lw_at lw_m1 100 rfl) rfl
theorem q221 : (Jvm.Cond.selects "RailingsCount$State" ({ cls := "RailingsCount$State", name := "be", desc := "(LRailingsCount$State;)V" } : Jvm.MethodName) ({ cls := "RailingsCount$State", name := "be", desc := "(LRailingsCount$State;)V" } : Jvm.MethodName)) ∈ lw_all := lw_g (lw_at lw_m1 101 rfl) rfl
theorem q222 : (Jvm.Cond.code ({ cls := "RailingsCount$State", name := "be", desc := "(LRailingsCount$State;)V" } : Jvm.MethodName) prog_14_method_4_code (2 : Nat) (Option.none : Option Jvm.ClassFile.FieldType)) ∈ lw_all := lw_g (lw_at lw_m1 102 rfl) rfl
theorem q223 : (Jvm.Cond.methodLink "RailingsCount$State" (56 : Nat) ({ cls := "RailingsCount$State", name := "copy", desc := "([I[I)V" } : Jvm.MethodName)) ∈ lw_all := lw_g (lw_at lw_m1 103 rfl) rfl
theorem q224 : (Jvm.Cond.static ({ cls := "RailingsCount$State", name := "copy", desc := "([I[I)V" } : Jvm.MethodName)) ∈ lw_all := lw_g (lw_at lw_m1 104 rfl) rfl
theorem q225 : (Jvm.Cond.code ({ cls := "RailingsCount$State", name := "copy", desc := "([I[I)V" } : Jvm.MethodName) prog_14_method_2_code (2 : Nat) (Option.none : Option Jvm.ClassFile.FieldType)) ∈ lw_all := lw_g (lw_at lw_m1 105 rfl) rfl
theorem q226 : (Jvm.Cond.methodLink "RailingsCount$State" (50 : Nat) ({ cls := "java/lang/System", name := "arraycopy", desc := "(Ljava/lang/Object;ILjava/lang/Object;II)V" } : Jvm.MethodName)) ∈ lw_all := lw_g (lw_at lw_m1 106 rfl) rfl
theorem q229 : (Jvm.Cond.methodLink "RailingsCount$State" (60 : Nat) ({ cls := "RailingsCount$State", name := "copy", desc := "([[I[[I)V" } : Jvm.MethodName)) ∈ lw_all := lw_g (lw_at lw_m1 109 rfl) rfl
theorem q230 : (Jvm.Cond.static ({ cls := "RailingsCount$State", name := "copy", desc := "([[I[[I)V" } : Jvm.MethodName)) ∈ lw_all := lw_g (lw_at lw_m1 110 rfl) rfl
theorem q231 : (Jvm.Cond.code ({ cls := "RailingsCount$State", name := "copy", desc := "([[I[[I)V" } : Jvm.MethodName) prog_14_method_3_code (3 : Nat) (Option.none : Option Jvm.ClassFile.FieldType)) ∈ lw_all := lw_g (lw_at lw_m1 111 rfl) rfl
theorem q278 : (Jvm.Cond.instanceMethod ({ cls := "RailingsCount$State", name := "tells", desc := "(II)V" } : Jvm.MethodName)) ∈ lw_all := lw_g (lw_at lw_m1 158 rfl) rfl
theorem q279 : (Jvm.Cond.selects "RailingsCount$State" ({ cls := "RailingsCount$State", name := "tells", desc := "(II)V" } : Jvm.MethodName) ({ cls := "RailingsCount$State", name := "tells", desc := "(II)V" } : Jvm.MethodName)) ∈ lw_all := lw_g (lw_at lw_m1 159 rfl) rfl
theorem q280 : (Jvm.Cond.code ({ cls := "RailingsCount$State", name := "tells", desc := "(II)V" } : Jvm.MethodName) prog_14_method_6_code (4 : Nat) (Option.none : Option Jvm.ClassFile.FieldType)) ∈ lw_all := lw_g (lw_at lw_m1 160 rfl) rfl
theorem q649 : (Jvm.Cond.selects "RailingsCount$State" ({ cls := "java/lang/Object", name := "getClass", desc := "()Ljava/lang/Class;" } : Jvm.MethodName) ({ cls := "java/lang/Object", name := "getClass", desc := "()Ljava/lang/Class;" } : Jvm.MethodName)) ∈ lw_all := lw_g (lw_at lw_m3 49 rfl) rfl
theorem q875 : (Jvm.Cond.instanceMethod ({ cls := "RailingsCount$State", name := "keeps", desc := "()V" } : Jvm.MethodName)) ∈ lw_all := lw_g (lw_at lw_m4 35 rfl) rfl
theorem q876 : (Jvm.Cond.selects "RailingsCount$State" ({ cls := "RailingsCount$State", name := "keeps", desc := "()V" } : Jvm.MethodName) ({ cls := "RailingsCount$State", name := "keeps", desc := "()V" } : Jvm.MethodName)) ∈ lw_all := lw_g (lw_at lw_m4 36 rfl) rfl
theorem q877 : (Jvm.Cond.code ({ cls := "RailingsCount$State", name := "keeps", desc := "()V" } : Jvm.MethodName) prog_14_method_5_code (2 : Nat) (Option.none : Option Jvm.ClassFile.FieldType)) ∈ lw_all := lw_g (lw_at lw_m4 37 rfl) rfl
theorem q1217 : (Jvm.Cond.instanceMethod ({ cls := "RailingsCount$State", name := "clears", desc := "(I)I" } : Jvm.MethodName)) ∈ lw_all := lw_g (lw_at lw_m5 137 rfl) rfl
theorem q1218 : (Jvm.Cond.selects "RailingsCount$State" ({ cls := "RailingsCount$State", name := "clears", desc := "(I)I" } : Jvm.MethodName) ({ cls := "RailingsCount$State", name := "clears", desc := "(I)I" } : Jvm.MethodName)) ∈ lw_all := lw_g (lw_at lw_m5 138 rfl) rfl
theorem q1219 : (Jvm.Cond.code ({ cls := "RailingsCount$State", name := "clears", desc := "(I)I" } : Jvm.MethodName) prog_14_method_8_code (2 : Nat) (Option.some Jvm.ClassFile.FieldType.int)) ∈ lw_all := lw_g (lw_at lw_m5 139 rfl) rfl
theorem q1221 : (Jvm.Cond.instanceMethod ({ cls := "RailingsCount$State", name := "adds", desc := "([[IIIII)I" } : Jvm.MethodName)) ∈ lw_all := lw_g (lw_at lw_m5 141 rfl) rfl
theorem q1222 : (Jvm.Cond.selects "RailingsCount$State" ({ cls := "RailingsCount$State", name := "adds", desc := "([[IIIII)I" } : Jvm.MethodName) ({ cls := "RailingsCount$State", name := "adds", desc := "([[IIIII)I" } : Jvm.MethodName)) ∈ lw_all := lw_g (lw_at lw_m5 142 rfl) rfl
theorem q1223 : (Jvm.Cond.code ({ cls := "RailingsCount$State", name := "adds", desc := "([[IIIII)I" } : Jvm.MethodName) prog_14_method_7_code (7 : Nat) (Option.some Jvm.ClassFile.FieldType.int)) ∈ lw_all := lw_g (lw_at lw_m5 143 rfl) rfl
theorem q2019 : (Jvm.Cond.castable "RailingsCount$State" "java/lang/Object") ∈ lw_tbl := lw_at lw_m8 219 rfl
theorem in_X1 : ∀ w ∈ wsX10, w ∈ lw_all := lw_in wsX10 [198, 200, 202, 204, 206, 208, 210, 212, 214] (by decide +kernel) (by decide +kernel)
/-! java/lang/Math -/
set_option maxRecDepth 100000
def RJ8 : String := "java/lang/Math"
abbrev cJ8_min : ByteArray := prog_29_method_69_code
def yJ8_min : MethodName := ⟨RJ8, "min", "(II)I"⟩
def dkwJ8_min_0 : List UInt8 := [26, 27, 163, 0, 7, 26, 167, 0, 4, 27, 172]
abbrev dktJ8_min_0 : List UInt8 := dkwJ8_min_0 ++ []
theorem dksJ8_min_0 : cJ8_min.data.toList.drop 0 = dktJ8_min_0 := by decide +kernel
theorem dJ8_min_0 : decode cJ8_min 0 = .ok (.iload_n 0, 1) := dk_26 (dk_at dksJ8_min_0 0 rfl rfl)
theorem dJ8_min_1 : decode cJ8_min 1 = .ok (.iload_n 1, 1) := dk_27 (dk_at dksJ8_min_0 1 rfl rfl)
theorem dJ8_min_2 : decode cJ8_min 2 = .ok (.if_icmp .gt 7, 3) := dk_163 0 7 (dk_at dksJ8_min_0 2 rfl rfl)
theorem dJ8_min_5 : decode cJ8_min 5 = .ok (.iload_n 0, 1) := dk_26 (dk_at dksJ8_min_0 5 rfl rfl)
theorem dJ8_min_6 : decode cJ8_min 6 = .ok (.goto 4, 3) := dk_167 0 4 (dk_at dksJ8_min_0 6 rfl rfl)
theorem dJ8_min_9 : decode cJ8_min 9 = .ok (.iload_n 1, 1) := dk_27 (dk_at dksJ8_min_0 9 rfl rfl)
theorem dJ8_min_10 : decode cJ8_min 10 = .ok (.ireturn, 1) := dk_172 (dk_at dksJ8_min_0 10 rfl rfl)
abbrev cJ8_max : ByteArray := prog_29_method_65_code
def yJ8_max : MethodName := ⟨RJ8, "max", "(II)I"⟩
def dkwJ8_max_0 : List UInt8 := [26, 27, 161, 0, 7, 26, 167, 0, 4, 27, 172]
abbrev dktJ8_max_0 : List UInt8 := dkwJ8_max_0 ++ []
theorem dksJ8_max_0 : cJ8_max.data.toList.drop 0 = dktJ8_max_0 := by decide +kernel
theorem dJ8_max_0 : decode cJ8_max 0 = .ok (.iload_n 0, 1) := dk_26 (dk_at dksJ8_max_0 0 rfl rfl)
theorem dJ8_max_1 : decode cJ8_max 1 = .ok (.iload_n 1, 1) := dk_27 (dk_at dksJ8_max_0 1 rfl rfl)
theorem dJ8_max_2 : decode cJ8_max 2 = .ok (.if_icmp .lt 7, 3) := dk_161 0 7 (dk_at dksJ8_max_0 2 rfl rfl)
theorem dJ8_max_5 : decode cJ8_max 5 = .ok (.iload_n 0, 1) := dk_26 (dk_at dksJ8_max_0 5 rfl rfl)
theorem dJ8_max_6 : decode cJ8_max 6 = .ok (.goto 4, 3) := dk_167 0 4 (dk_at dksJ8_max_0 6 rfl rfl)
theorem dJ8_max_9 : decode cJ8_max 9 = .ok (.iload_n 1, 1) := dk_27 (dk_at dksJ8_max_0 9 rfl rfl)
theorem dJ8_max_10 : decode cJ8_max 10 = .ok (.ireturn, 1) := dk_172 (dk_at dksJ8_max_0 10 rfl rfl)
abbrev cJ8_min_2 : ByteArray := prog_29_method_70_code
def yJ8_min_2 : MethodName := ⟨RJ8, "min", "(JJ)J"⟩
def dkwJ8_min_2_0 : List UInt8 := [30, 32, 148, 157, 0, 7, 30, 167, 0, 4, 32, 173]
abbrev dktJ8_min_2_0 : List UInt8 := dkwJ8_min_2_0 ++ []
theorem dksJ8_min_2_0 : cJ8_min_2.data.toList.drop 0 = dktJ8_min_2_0 := by decide +kernel
theorem dJ8_min_2_0 : decode cJ8_min_2 0 = .ok (.lload_n 0, 1) := dk_30 (dk_at dksJ8_min_2_0 0 rfl rfl)
theorem dJ8_min_2_1 : decode cJ8_min_2 1 = .ok (.lload_n 2, 1) := dk_32 (dk_at dksJ8_min_2_0 1 rfl rfl)
theorem dJ8_min_2_2 : decode cJ8_min_2 2 = .ok (.lcmp, 1) := dk_148 (dk_at dksJ8_min_2_0 2 rfl rfl)
theorem dJ8_min_2_3 : decode cJ8_min_2 3 = .ok (.ifCond .gt 7, 3) := dk_157 0 7 (dk_at dksJ8_min_2_0 3 rfl rfl)
theorem dJ8_min_2_6 : decode cJ8_min_2 6 = .ok (.lload_n 0, 1) := dk_30 (dk_at dksJ8_min_2_0 6 rfl rfl)
theorem dJ8_min_2_7 : decode cJ8_min_2 7 = .ok (.goto 4, 3) := dk_167 0 4 (dk_at dksJ8_min_2_0 7 rfl rfl)
theorem dJ8_min_2_10 : decode cJ8_min_2 10 = .ok (.lload_n 2, 1) := dk_32 (dk_at dksJ8_min_2_0 10 rfl rfl)
theorem dJ8_min_2_11 : decode cJ8_min_2 11 = .ok (.lreturn, 1) := dk_173 (dk_at dksJ8_min_2_0 11 rfl rfl)
abbrev cJ8_max_2 : ByteArray := prog_29_method_66_code
def yJ8_max_2 : MethodName := ⟨RJ8, "max", "(JJ)J"⟩
def dkwJ8_max_2_0 : List UInt8 := [30, 32, 148, 155, 0, 7, 30, 167, 0, 4, 32, 173]
abbrev dktJ8_max_2_0 : List UInt8 := dkwJ8_max_2_0 ++ []
theorem dksJ8_max_2_0 : cJ8_max_2.data.toList.drop 0 = dktJ8_max_2_0 := by decide +kernel
theorem dJ8_max_2_0 : decode cJ8_max_2 0 = .ok (.lload_n 0, 1) := dk_30 (dk_at dksJ8_max_2_0 0 rfl rfl)
theorem dJ8_max_2_1 : decode cJ8_max_2 1 = .ok (.lload_n 2, 1) := dk_32 (dk_at dksJ8_max_2_0 1 rfl rfl)
theorem dJ8_max_2_2 : decode cJ8_max_2 2 = .ok (.lcmp, 1) := dk_148 (dk_at dksJ8_max_2_0 2 rfl rfl)
theorem dJ8_max_2_3 : decode cJ8_max_2 3 = .ok (.ifCond .lt 7, 3) := dk_155 0 7 (dk_at dksJ8_max_2_0 3 rfl rfl)
theorem dJ8_max_2_6 : decode cJ8_max_2 6 = .ok (.lload_n 0, 1) := dk_30 (dk_at dksJ8_max_2_0 6 rfl rfl)
theorem dJ8_max_2_7 : decode cJ8_max_2 7 = .ok (.goto 4, 3) := dk_167 0 4 (dk_at dksJ8_max_2_0 7 rfl rfl)
theorem dJ8_max_2_10 : decode cJ8_max_2 10 = .ok (.lload_n 2, 1) := dk_32 (dk_at dksJ8_max_2_0 10 rfl rfl)
theorem dJ8_max_2_11 : decode cJ8_max_2 11 = .ok (.lreturn, 1) := dk_173 (dk_at dksJ8_max_2_0 11 rfl rfl)
abbrev cJ8_abs : ByteArray := prog_29_method_59_code
def yJ8_abs : MethodName := ⟨RJ8, "abs", "(I)I"⟩
def dkwJ8_abs_0 : List UInt8 := [26, 156, 0, 8, 26, 116, 167, 0, 4, 26, 172]
abbrev dktJ8_abs_0 : List UInt8 := dkwJ8_abs_0 ++ []
theorem dksJ8_abs_0 : cJ8_abs.data.toList.drop 0 = dktJ8_abs_0 := by decide +kernel
theorem dJ8_abs_0 : decode cJ8_abs 0 = .ok (.iload_n 0, 1) := dk_26 (dk_at dksJ8_abs_0 0 rfl rfl)
theorem dJ8_abs_1 : decode cJ8_abs 1 = .ok (.ifCond .ge 8, 3) := dk_156 0 8 (dk_at dksJ8_abs_0 1 rfl rfl)
theorem dJ8_abs_4 : decode cJ8_abs 4 = .ok (.iload_n 0, 1) := dk_26 (dk_at dksJ8_abs_0 4 rfl rfl)
theorem dJ8_abs_5 : decode cJ8_abs 5 = .ok (.ineg, 1) := dk_116 (dk_at dksJ8_abs_0 5 rfl rfl)
theorem dJ8_abs_6 : decode cJ8_abs 6 = .ok (.goto 4, 3) := dk_167 0 4 (dk_at dksJ8_abs_0 6 rfl rfl)
theorem dJ8_abs_9 : decode cJ8_abs 9 = .ok (.iload_n 0, 1) := dk_26 (dk_at dksJ8_abs_0 9 rfl rfl)
theorem dJ8_abs_10 : decode cJ8_abs 10 = .ok (.ireturn, 1) := dk_172 (dk_at dksJ8_abs_0 10 rfl rfl)
theorem q135 : (Jvm.Cond.initialized "java/lang/Math") ∈ lw_all := lw_g (lw_at lw_m1 15 rfl) rfl
theorem q455 : (Jvm.Cond.static ({ cls := "java/lang/Math", name := "min", desc := "(II)I" } : Jvm.MethodName)) ∈ lw_all := lw_g (lw_at lw_m2 95 rfl) rfl
theorem q456 : (Jvm.Cond.code ({ cls := "java/lang/Math", name := "min", desc := "(II)I" } : Jvm.MethodName) prog_29_method_69_code (2 : Nat) (Option.some Jvm.ClassFile.FieldType.int)) ∈ lw_all := lw_g (lw_at lw_m2 96 rfl) rfl
theorem q625 : (Jvm.Cond.static ({ cls := "java/lang/Math", name := "max", desc := "(II)I" } : Jvm.MethodName)) ∈ lw_all := lw_g (lw_at lw_m3 25 rfl) rfl
theorem q626 : (Jvm.Cond.code ({ cls := "java/lang/Math", name := "max", desc := "(II)I" } : Jvm.MethodName) prog_29_method_65_code (2 : Nat) (Option.some Jvm.ClassFile.FieldType.int)) ∈ lw_all := lw_g (lw_at lw_m3 26 rfl) rfl
theorem q1003 : (Jvm.Cond.static ({ cls := "java/lang/Math", name := "min", desc := "(JJ)J" } : Jvm.MethodName)) ∈ lw_all := lw_g (lw_at lw_m4 163 rfl) rfl
theorem q1004 : (Jvm.Cond.code ({ cls := "java/lang/Math", name := "min", desc := "(JJ)J" } : Jvm.MethodName) prog_29_method_70_code (4 : Nat) (Option.some Jvm.ClassFile.FieldType.long)) ∈ lw_all := lw_g (lw_at lw_m4 164 rfl) rfl
theorem q1006 : (Jvm.Cond.static ({ cls := "java/lang/Math", name := "max", desc := "(JJ)J" } : Jvm.MethodName)) ∈ lw_all := lw_g (lw_at lw_m4 166 rfl) rfl
theorem q1007 : (Jvm.Cond.code ({ cls := "java/lang/Math", name := "max", desc := "(JJ)J" } : Jvm.MethodName) prog_29_method_66_code (4 : Nat) (Option.some Jvm.ClassFile.FieldType.long)) ∈ lw_all := lw_g (lw_at lw_m4 167 rfl) rfl
theorem q1242 : (Jvm.Cond.static ({ cls := "java/lang/Math", name := "abs", desc := "(I)I" } : Jvm.MethodName)) ∈ lw_all := lw_g (lw_at lw_m5 162 rfl) rfl
theorem q1243 : (Jvm.Cond.code ({ cls := "java/lang/Math", name := "abs", desc := "(I)I" } : Jvm.MethodName) prog_29_method_59_code (1 : Nat) (Option.some Jvm.ClassFile.FieldType.int)) ∈ lw_all := lw_g (lw_at lw_m5 163 rfl) rfl
/-! java/lang/Integer -/
set_option maxRecDepth 100000
def RJ15 : String := "java/lang/Integer"
def TJ15 : u_T := fun k => match k with
  | _ => ("java/lang/Integer", "value", "I", true)
def tyJ15 : Nat → FieldType := fun k => match k with
  | _ => .int
abbrev wsJ150 : List Cond := u_ws RJ15 TJ15 1
theorem nmJ15 : ∀ a, a < 1 → ∀ b, b < 1 → a ≠ b → (TJ15 a).2.1 ≠ (TJ15 b).2.1 := by decide +kernel
theorem tyJ15_ok : ∀ k, k < 1 → parseFieldDescriptor (TJ15 k).2.2.1 = some (tyJ15 k) := by decide +kernel
abbrev cJ15_valueOf : ByteArray := prog_26_method_22_code
def yJ15_valueOf : MethodName := ⟨RJ15, "valueOf", "(I)Ljava/lang/Integer;"⟩
def dkwJ15_valueOf_1 : List UInt8 := [187, 0, 1, 89, 26, 183, 0, 199, 176]
abbrev dktJ15_valueOf_1 : List UInt8 := dkwJ15_valueOf_1 ++ []
def dkwJ15_valueOf_0 : List UInt8 := [26, 16, 128, 161, 0, 20, 26, 178, 0, 191, 163, 0, 13, 178, 0, 195, 26, 17, 0, 128, 96, 50, 176]
abbrev dktJ15_valueOf_0 : List UInt8 := dkwJ15_valueOf_0 ++ dktJ15_valueOf_1
theorem dksJ15_valueOf_0 : cJ15_valueOf.data.toList.drop 0 = dktJ15_valueOf_0 := by decide +kernel
theorem dksJ15_valueOf_1 : cJ15_valueOf.data.toList.drop 23 = dktJ15_valueOf_1 := dk_seg dksJ15_valueOf_0 23 rfl rfl
theorem dJ15_valueOf_0 : decode cJ15_valueOf 0 = .ok (.iload_n 0, 1) := dk_26 (dk_at dksJ15_valueOf_0 0 rfl rfl)
theorem dJ15_valueOf_1 : decode cJ15_valueOf 1 = .ok (.bipush (-128), 2) := dk_16 128 (dk_at dksJ15_valueOf_0 1 rfl rfl)
theorem dJ15_valueOf_3 : decode cJ15_valueOf 3 = .ok (.if_icmp .lt 20, 3) := dk_161 0 20 (dk_at dksJ15_valueOf_0 3 rfl rfl)
theorem dJ15_valueOf_6 : decode cJ15_valueOf 6 = .ok (.iload_n 0, 1) := dk_26 (dk_at dksJ15_valueOf_0 6 rfl rfl)
theorem dJ15_valueOf_7 : decode cJ15_valueOf 7 = .ok (.getstatic 191, 3) := dk_178 0 191 (dk_at dksJ15_valueOf_0 7 rfl rfl)
theorem dJ15_valueOf_10 : decode cJ15_valueOf 10 = .ok (.if_icmp .gt 13, 3) := dk_163 0 13 (dk_at dksJ15_valueOf_0 10 rfl rfl)
theorem dJ15_valueOf_13 : decode cJ15_valueOf 13 = .ok (.getstatic 195, 3) := dk_178 0 195 (dk_at dksJ15_valueOf_0 13 rfl rfl)
theorem dJ15_valueOf_16 : decode cJ15_valueOf 16 = .ok (.iload_n 0, 1) := dk_26 (dk_at dksJ15_valueOf_0 16 rfl rfl)
theorem dJ15_valueOf_17 : decode cJ15_valueOf 17 = .ok (.sipush 128, 3) := dk_17 0 128 (dk_at dksJ15_valueOf_0 17 rfl rfl)
theorem dJ15_valueOf_20 : decode cJ15_valueOf 20 = .ok (.iadd, 1) := dk_96 (dk_at dksJ15_valueOf_0 20 rfl rfl)
theorem dJ15_valueOf_21 : decode cJ15_valueOf 21 = .ok (.aaload, 1) := dk_50 (dk_at dksJ15_valueOf_0 21 rfl rfl)
theorem dJ15_valueOf_22 : decode cJ15_valueOf 22 = .ok (.areturn, 1) := dk_176 (dk_at dksJ15_valueOf_0 22 rfl rfl)
theorem dJ15_valueOf_23 : decode cJ15_valueOf 23 = .ok (.new 1, 3) := dk_187 0 1 (dk_at dksJ15_valueOf_1 0 rfl rfl)
theorem dJ15_valueOf_26 : decode cJ15_valueOf 26 = .ok (.dup, 1) := dk_89 (dk_at dksJ15_valueOf_1 3 rfl rfl)
theorem dJ15_valueOf_27 : decode cJ15_valueOf 27 = .ok (.iload_n 0, 1) := dk_26 (dk_at dksJ15_valueOf_1 4 rfl rfl)
theorem dJ15_valueOf_28 : decode cJ15_valueOf 28 = .ok (.invokespecial 199, 3) := dk_183 0 199 (dk_at dksJ15_valueOf_1 5 rfl rfl)
theorem dJ15_valueOf_31 : decode cJ15_valueOf 31 = .ok (.areturn, 1) := dk_176 (dk_at dksJ15_valueOf_1 8 rfl rfl)
abbrev cJ15_init : ByteArray := prog_26_method_23_code
def yJ15_init : MethodName := ⟨RJ15, "<init>", "(I)V"⟩
def dkwJ15_init_0 : List UInt8 := [42, 183, 0, 202, 42, 27, 181, 0, 205, 177]
abbrev dktJ15_init_0 : List UInt8 := dkwJ15_init_0 ++ []
theorem dksJ15_init_0 : cJ15_init.data.toList.drop 0 = dktJ15_init_0 := by decide +kernel
theorem dJ15_init_0 : decode cJ15_init 0 = .ok (.aload_n 0, 1) := dk_42 (dk_at dksJ15_init_0 0 rfl rfl)
theorem dJ15_init_1 : decode cJ15_init 1 = .ok (.invokespecial 202, 3) := dk_183 0 202 (dk_at dksJ15_init_0 1 rfl rfl)
theorem dJ15_init_4 : decode cJ15_init 4 = .ok (.aload_n 0, 1) := dk_42 (dk_at dksJ15_init_0 4 rfl rfl)
theorem dJ15_init_5 : decode cJ15_init 5 = .ok (.iload_n 1, 1) := dk_27 (dk_at dksJ15_init_0 5 rfl rfl)
theorem dJ15_init_6 : decode cJ15_init 6 = .ok (.putfield 205, 3) := dk_181 0 205 (dk_at dksJ15_init_0 6 rfl rfl)
theorem dJ15_init_9 : decode cJ15_init 9 = .ok (.return_, 1) := dk_177 (dk_at dksJ15_init_0 9 rfl rfl)
abbrev cJ15_intValue : ByteArray := prog_26_method_27_code
def yJ15_intValue : MethodName := ⟨RJ15, "intValue", "()I"⟩
theorem dJ15_intValue_0 : decode cJ15_intValue 0 = .ok (.aload_n 0, 1) := by decide +kernel
theorem dJ15_intValue_1 : decode cJ15_intValue 1 = .ok (.getfield 205, 3) := by decide +kernel
theorem dJ15_intValue_4 : decode cJ15_intValue 4 = .ok (.ireturn, 1) := by decide +kernel
abbrev cJ15_bitCount : ByteArray := prog_26_method_49_code
def yJ15_bitCount : MethodName := ⟨RJ15, "bitCount", "(I)I"⟩
def dkwJ15_bitCount_2 : List UInt8 := [26, 16, 63, 126, 172]
abbrev dktJ15_bitCount_2 : List UInt8 := dkwJ15_bitCount_2 ++ []
def dkwJ15_bitCount_1 : List UInt8 := [26, 26, 7, 124, 96, 19, 1, 11, 126, 59, 26, 26, 16, 8, 124, 96, 59, 26, 26, 16, 16, 124, 96, 59]
abbrev dktJ15_bitCount_1 : List UInt8 := dkwJ15_bitCount_1 ++ dktJ15_bitCount_2
def dkwJ15_bitCount_0 : List UInt8 := [26, 26, 4, 124, 19, 1, 9, 126, 100, 59, 26, 19, 1, 10, 126, 26, 5, 124, 19, 1, 10, 126, 96, 59]
abbrev dktJ15_bitCount_0 : List UInt8 := dkwJ15_bitCount_0 ++ dktJ15_bitCount_1
theorem dksJ15_bitCount_0 : cJ15_bitCount.data.toList.drop 0 = dktJ15_bitCount_0 := by decide +kernel
theorem dksJ15_bitCount_1 : cJ15_bitCount.data.toList.drop 24 = dktJ15_bitCount_1 := dk_seg dksJ15_bitCount_0 24 rfl rfl
theorem dksJ15_bitCount_2 : cJ15_bitCount.data.toList.drop 48 = dktJ15_bitCount_2 := dk_seg dksJ15_bitCount_1 24 rfl rfl
theorem dJ15_bitCount_0 : decode cJ15_bitCount 0 = .ok (.iload_n 0, 1) := dk_26 (dk_at dksJ15_bitCount_0 0 rfl rfl)
theorem dJ15_bitCount_1 : decode cJ15_bitCount 1 = .ok (.iload_n 0, 1) := dk_26 (dk_at dksJ15_bitCount_0 1 rfl rfl)
theorem dJ15_bitCount_2 : decode cJ15_bitCount 2 = .ok (.iconst 1, 1) := dk_4 (dk_at dksJ15_bitCount_0 2 rfl rfl)
theorem dJ15_bitCount_3 : decode cJ15_bitCount 3 = .ok (.iushr, 1) := dk_124 (dk_at dksJ15_bitCount_0 3 rfl rfl)
theorem dJ15_bitCount_4 : decode cJ15_bitCount 4 = .ok (.ldc_w 265, 3) := dk_19 1 9 (dk_at dksJ15_bitCount_0 4 rfl rfl)
theorem dJ15_bitCount_7 : decode cJ15_bitCount 7 = .ok (.iand, 1) := dk_126 (dk_at dksJ15_bitCount_0 7 rfl rfl)
theorem dJ15_bitCount_8 : decode cJ15_bitCount 8 = .ok (.isub, 1) := dk_100 (dk_at dksJ15_bitCount_0 8 rfl rfl)
theorem dJ15_bitCount_9 : decode cJ15_bitCount 9 = .ok (.istore_n 0, 1) := dk_59 (dk_at dksJ15_bitCount_0 9 rfl rfl)
theorem dJ15_bitCount_10 : decode cJ15_bitCount 10 = .ok (.iload_n 0, 1) := dk_26 (dk_at dksJ15_bitCount_0 10 rfl rfl)
theorem dJ15_bitCount_11 : decode cJ15_bitCount 11 = .ok (.ldc_w 266, 3) := dk_19 1 10 (dk_at dksJ15_bitCount_0 11 rfl rfl)
theorem dJ15_bitCount_14 : decode cJ15_bitCount 14 = .ok (.iand, 1) := dk_126 (dk_at dksJ15_bitCount_0 14 rfl rfl)
theorem dJ15_bitCount_15 : decode cJ15_bitCount 15 = .ok (.iload_n 0, 1) := dk_26 (dk_at dksJ15_bitCount_0 15 rfl rfl)
theorem dJ15_bitCount_16 : decode cJ15_bitCount 16 = .ok (.iconst 2, 1) := dk_5 (dk_at dksJ15_bitCount_0 16 rfl rfl)
theorem dJ15_bitCount_17 : decode cJ15_bitCount 17 = .ok (.iushr, 1) := dk_124 (dk_at dksJ15_bitCount_0 17 rfl rfl)
theorem dJ15_bitCount_18 : decode cJ15_bitCount 18 = .ok (.ldc_w 266, 3) := dk_19 1 10 (dk_at dksJ15_bitCount_0 18 rfl rfl)
theorem dJ15_bitCount_21 : decode cJ15_bitCount 21 = .ok (.iand, 1) := dk_126 (dk_at dksJ15_bitCount_0 21 rfl rfl)
theorem dJ15_bitCount_22 : decode cJ15_bitCount 22 = .ok (.iadd, 1) := dk_96 (dk_at dksJ15_bitCount_0 22 rfl rfl)
theorem dJ15_bitCount_23 : decode cJ15_bitCount 23 = .ok (.istore_n 0, 1) := dk_59 (dk_at dksJ15_bitCount_0 23 rfl rfl)
theorem dJ15_bitCount_24 : decode cJ15_bitCount 24 = .ok (.iload_n 0, 1) := dk_26 (dk_at dksJ15_bitCount_1 0 rfl rfl)
theorem dJ15_bitCount_25 : decode cJ15_bitCount 25 = .ok (.iload_n 0, 1) := dk_26 (dk_at dksJ15_bitCount_1 1 rfl rfl)
theorem dJ15_bitCount_26 : decode cJ15_bitCount 26 = .ok (.iconst 4, 1) := dk_7 (dk_at dksJ15_bitCount_1 2 rfl rfl)
theorem dJ15_bitCount_27 : decode cJ15_bitCount 27 = .ok (.iushr, 1) := dk_124 (dk_at dksJ15_bitCount_1 3 rfl rfl)
theorem dJ15_bitCount_28 : decode cJ15_bitCount 28 = .ok (.iadd, 1) := dk_96 (dk_at dksJ15_bitCount_1 4 rfl rfl)
theorem dJ15_bitCount_29 : decode cJ15_bitCount 29 = .ok (.ldc_w 267, 3) := dk_19 1 11 (dk_at dksJ15_bitCount_1 5 rfl rfl)
theorem dJ15_bitCount_32 : decode cJ15_bitCount 32 = .ok (.iand, 1) := dk_126 (dk_at dksJ15_bitCount_1 8 rfl rfl)
theorem dJ15_bitCount_33 : decode cJ15_bitCount 33 = .ok (.istore_n 0, 1) := dk_59 (dk_at dksJ15_bitCount_1 9 rfl rfl)
theorem dJ15_bitCount_34 : decode cJ15_bitCount 34 = .ok (.iload_n 0, 1) := dk_26 (dk_at dksJ15_bitCount_1 10 rfl rfl)
theorem dJ15_bitCount_35 : decode cJ15_bitCount 35 = .ok (.iload_n 0, 1) := dk_26 (dk_at dksJ15_bitCount_1 11 rfl rfl)
theorem dJ15_bitCount_36 : decode cJ15_bitCount 36 = .ok (.bipush 8, 2) := dk_16 8 (dk_at dksJ15_bitCount_1 12 rfl rfl)
theorem dJ15_bitCount_38 : decode cJ15_bitCount 38 = .ok (.iushr, 1) := dk_124 (dk_at dksJ15_bitCount_1 14 rfl rfl)
theorem dJ15_bitCount_39 : decode cJ15_bitCount 39 = .ok (.iadd, 1) := dk_96 (dk_at dksJ15_bitCount_1 15 rfl rfl)
theorem dJ15_bitCount_40 : decode cJ15_bitCount 40 = .ok (.istore_n 0, 1) := dk_59 (dk_at dksJ15_bitCount_1 16 rfl rfl)
theorem dJ15_bitCount_41 : decode cJ15_bitCount 41 = .ok (.iload_n 0, 1) := dk_26 (dk_at dksJ15_bitCount_1 17 rfl rfl)
theorem dJ15_bitCount_42 : decode cJ15_bitCount 42 = .ok (.iload_n 0, 1) := dk_26 (dk_at dksJ15_bitCount_1 18 rfl rfl)
theorem dJ15_bitCount_43 : decode cJ15_bitCount 43 = .ok (.bipush 16, 2) := dk_16 16 (dk_at dksJ15_bitCount_1 19 rfl rfl)
theorem dJ15_bitCount_45 : decode cJ15_bitCount 45 = .ok (.iushr, 1) := dk_124 (dk_at dksJ15_bitCount_1 21 rfl rfl)
theorem dJ15_bitCount_46 : decode cJ15_bitCount 46 = .ok (.iadd, 1) := dk_96 (dk_at dksJ15_bitCount_1 22 rfl rfl)
theorem dJ15_bitCount_47 : decode cJ15_bitCount 47 = .ok (.istore_n 0, 1) := dk_59 (dk_at dksJ15_bitCount_1 23 rfl rfl)
theorem dJ15_bitCount_48 : decode cJ15_bitCount 48 = .ok (.iload_n 0, 1) := dk_26 (dk_at dksJ15_bitCount_2 0 rfl rfl)
theorem dJ15_bitCount_49 : decode cJ15_bitCount 49 = .ok (.bipush 63, 2) := dk_16 63 (dk_at dksJ15_bitCount_2 1 rfl rfl)
theorem dJ15_bitCount_51 : decode cJ15_bitCount 51 = .ok (.iand, 1) := dk_126 (dk_at dksJ15_bitCount_2 3 rfl rfl)
theorem dJ15_bitCount_52 : decode cJ15_bitCount 52 = .ok (.ireturn, 1) := dk_172 (dk_at dksJ15_bitCount_2 4 rfl rfl)
theorem q153 : (Jvm.Cond.initialized "java/lang/Integer") ∈ lw_all := lw_g (lw_at lw_m1 33 rfl) rfl
theorem q654 : (Jvm.Cond.selects "java/lang/Integer" ({ cls := "java/lang/Object", name := "getClass", desc := "()Ljava/lang/Class;" } : Jvm.MethodName) ({ cls := "java/lang/Object", name := "getClass", desc := "()Ljava/lang/Class;" } : Jvm.MethodName)) ∈ lw_all := lw_g (lw_at lw_m3 54 rfl) rfl
theorem q795 : (Jvm.Cond.static ({ cls := "java/lang/Integer", name := "valueOf", desc := "(I)Ljava/lang/Integer;" } : Jvm.MethodName)) ∈ lw_all := lw_g (lw_at lw_m3 195 rfl) rfl
theorem q796 : (Jvm.Cond.code ({ cls := "java/lang/Integer", name := "valueOf", desc := "(I)Ljava/lang/Integer;" } : Jvm.MethodName) prog_26_method_22_code (1 : Nat) (Option.some (Jvm.ClassFile.FieldType.object "java/lang/Integer"))) ∈ lw_all := lw_g (lw_at lw_m3 196 rfl) rfl
theorem q797 : (Jvm.Cond.fieldLink "java/lang/Integer" (191 : Nat) "java/lang/Integer$IntegerCache" "high" "I") ∈ lw_all := lw_g (lw_at lw_m3 197 rfl) rfl
theorem q799 : (Jvm.Cond.fieldLink "java/lang/Integer" (195 : Nat) "java/lang/Integer$IntegerCache" "cache" "[Ljava/lang/Integer;") ∈ lw_all := lw_g (lw_at lw_m3 199 rfl) rfl
theorem q801 : (Jvm.Cond.classLink "java/lang/Integer" (1 : Nat) "java/lang/Integer") ∈ lw_all := lw_g (lw_at lw_m3 201 rfl) rfl
theorem q802 : (Jvm.Cond.instantiable "java/lang/Integer" (1 : Nat)) ∈ lw_all := lw_g (lw_at lw_m3 202 rfl) rfl
theorem q803 : (Jvm.Cond.methodLink "java/lang/Integer" (199 : Nat) ({ cls := "java/lang/Integer", name := "<init>", desc := "(I)V" } : Jvm.MethodName)) ∈ lw_all := lw_g (lw_at lw_m3 203 rfl) rfl
theorem q804 : (Jvm.Cond.instanceMethod ({ cls := "java/lang/Integer", name := "<init>", desc := "(I)V" } : Jvm.MethodName)) ∈ lw_all := lw_g (lw_at lw_m3 204 rfl) rfl
theorem q805 : (Jvm.Cond.code ({ cls := "java/lang/Integer", name := "<init>", desc := "(I)V" } : Jvm.MethodName) prog_26_method_23_code (2 : Nat) (Option.none : Option Jvm.ClassFile.FieldType)) ∈ lw_all := lw_g (lw_at lw_m3 205 rfl) rfl
theorem q806 : (Jvm.Cond.methodLink "java/lang/Integer" (202 : Nat) ({ cls := "java/lang/Number", name := "<init>", desc := "()V" } : Jvm.MethodName)) ∈ lw_all := lw_g (lw_at lw_m3 206 rfl) rfl
theorem q810 : (Jvm.Cond.fieldLink "java/lang/Integer" (205 : Nat) "java/lang/Integer" "value" "I") ∈ lw_all := lw_g (lw_at lw_m3 210 rfl) rfl
theorem q811 : (Jvm.Cond.laysFinal "java/lang/Integer" "java/lang/Integer" "value" "I") ∈ lw_all := lw_g (lw_at lw_m3 211 rfl) rfl
theorem q812 : (Jvm.Cond.soleField "java/lang/Integer" "value") ∈ lw_all := lw_g (lw_at lw_m3 212 rfl) rfl
theorem q813 : (Jvm.Cond.superclass "java/lang/Integer" "java/lang/Number") ∈ lw_all := lw_g (lw_at lw_m3 213 rfl) rfl
theorem q997 : (Jvm.Cond.instanceMethod ({ cls := "java/lang/Integer", name := "intValue", desc := "()I" } : Jvm.MethodName)) ∈ lw_all := lw_g (lw_at lw_m4 157 rfl) rfl
theorem q998 : (Jvm.Cond.selects "java/lang/Integer" ({ cls := "java/lang/Integer", name := "intValue", desc := "()I" } : Jvm.MethodName) ({ cls := "java/lang/Integer", name := "intValue", desc := "()I" } : Jvm.MethodName)) ∈ lw_all := lw_g (lw_at lw_m4 158 rfl) rfl
theorem q999 : (Jvm.Cond.code ({ cls := "java/lang/Integer", name := "intValue", desc := "()I" } : Jvm.MethodName) prog_26_method_27_code (1 : Nat) (Option.some Jvm.ClassFile.FieldType.int)) ∈ lw_all := lw_g (lw_at lw_m4 159 rfl) rfl
theorem q1236 : (Jvm.Cond.static ({ cls := "java/lang/Integer", name := "bitCount", desc := "(I)I" } : Jvm.MethodName)) ∈ lw_all := lw_g (lw_at lw_m5 156 rfl) rfl
theorem q1237 : (Jvm.Cond.code ({ cls := "java/lang/Integer", name := "bitCount", desc := "(I)I" } : Jvm.MethodName) prog_26_method_49_code (1 : Nat) (Option.some Jvm.ClassFile.FieldType.int)) ∈ lw_all := lw_g (lw_at lw_m5 157 rfl) rfl
theorem q1238 : (Jvm.Cond.constant "java/lang/Integer" (265 : Nat) (1431655765 : Int32)) ∈ lw_all := lw_g (lw_at lw_m5 158 rfl) rfl
theorem q1239 : (Jvm.Cond.constant "java/lang/Integer" (266 : Nat) (858993459 : Int32)) ∈ lw_all := lw_g (lw_at lw_m5 159 rfl) rfl
theorem q1240 : (Jvm.Cond.constant "java/lang/Integer" (267 : Nat) (252645135 : Int32)) ∈ lw_all := lw_g (lw_at lw_m5 160 rfl) rfl
theorem q2034 : (Jvm.Cond.castable "java/lang/Integer" "java/lang/Object") ∈ lw_tbl := lw_at lw_m8 234 rfl
theorem in_J15 : ∀ w ∈ wsJ150, w ∈ lw_all := lw_in wsJ150 [811] (by decide +kernel) (by decide +kernel)
theorem q124 : (Jvm.Cond.initialized "java/lang/System") ∈ lw_all := lw_g (lw_at lw_m1 4 rfl) rfl
set_option maxRecDepth 100000
theorem q227 : (Jvm.Cond.static ({ cls := "java/lang/System", name := "arraycopy", desc := "(Ljava/lang/Object;ILjava/lang/Object;II)V" } : Jvm.MethodName)) ∈ lw_all := lw_g (lw_at lw_m1 107 rfl) rfl
theorem q228 : (Jvm.Cond.native ({ cls := "java/lang/System", name := "arraycopy", desc := "(Ljava/lang/Object;ILjava/lang/Object;II)V" } : Jvm.MethodName)) ∈ lw_all := lw_g (lw_at lw_m1 108 rfl) rfl
theorem q171 : (Jvm.Cond.arrayOver (Jvm.ClassFile.FieldType.array Jvm.ClassFile.FieldType.int)) ∈ lw_tbl := lw_at lw_m1 51 rfl
set_option maxRecDepth 100000
theorem q173 : (Jvm.Cond.arrayOver (Jvm.ClassFile.FieldType.object "RailingsCount$Text")) ∈ lw_tbl := lw_at lw_m1 53 rfl
theorem q217 : (Jvm.Cond.arrayClass Jvm.ClassFile.FieldType.int) ∈ lw_all := lw_g (lw_at lw_m1 97 rfl) rfl
theorem q266 : (Jvm.Cond.arrayClass Jvm.ClassFile.FieldType.byte) ∈ lw_all := lw_g (lw_at lw_m1 146 rfl) rfl
theorem q348 : (Jvm.Cond.arrayOver (Jvm.ClassFile.FieldType.object "RailingsCount$Sum")) ∈ lw_tbl := lw_at lw_m1 228 rfl
theorem q661 : (Jvm.Cond.arrayOver (Jvm.ClassFile.FieldType.object "java/lang/Object")) ∈ lw_tbl := lw_at lw_m3 61 rfl
theorem q1469 : (Jvm.Cond.arrayClass Jvm.ClassFile.FieldType.long) ∈ lw_all := lw_g (lw_at lw_m6 149 rfl) rfl
theorem q1470 : (Jvm.Cond.arrayClass Jvm.ClassFile.FieldType.boolean) ∈ lw_all := lw_g (lw_at lw_m6 150 rfl) rfl
theorem q2077 : (Jvm.Cond.arrayOver (Jvm.ClassFile.FieldType.object "java/lang/String")) ∈ lw_tbl := lw_at lw_m9 37 rfl
theorem q2042 : (Jvm.Cond.castable "[I" "java/lang/Object") ∈ lw_tbl := lw_at lw_m9 2 rfl
set_option maxRecDepth 100000
/-! RailingsCount$Text -/
set_option maxRecDepth 100000
def RX4 : String := "RailingsCount$Text"
def TX4 : u_T := fun k => match k with
  | 0 => ("RailingsCount$Text", "law", "[LRailingsCount$Sum;", true)
  | 1 => ("RailingsCount$Text", "clauses", "I", false)
  | _ => ("RailingsCount$Text", "doings", "Ljava/util/ArrayList;", true)
def tyX4 : Nat → FieldType := fun k => match k with
  | 0 => .array (.object "RailingsCount$Sum")
  | 1 => .int
  | _ => .object "java/util/ArrayList"
abbrev wsX40 : List Cond := u_ws RX4 TX4 3
theorem nmX4 : ∀ a, a < 3 → ∀ b, b < 3 → a ≠ b → (TX4 a).2.1 ≠ (TX4 b).2.1 := by decide +kernel
theorem tyX4_ok : ∀ k, k < 3 → parseFieldDescriptor (TX4 k).2.2.1 = some (tyX4 k) := by decide +kernel
abbrev cX4_init : ByteArray := prog_16_method_1_code
def yX4_init : MethodName := ⟨RX4, "<init>", "()V"⟩
def dkwX4_init_0 : List UInt8 := [42, 183, 0, 1, 42, 5, 189, 0, 7, 181, 0, 9, 42, 187, 0, 15, 89, 183, 0, 17, 181, 0, 18, 177]
abbrev dktX4_init_0 : List UInt8 := dkwX4_init_0 ++ []
theorem dksX4_init_0 : cX4_init.data.toList.drop 0 = dktX4_init_0 := by decide +kernel
theorem dX4_init_0 : decode cX4_init 0 = .ok (.aload_n 0, 1) := dk_42 (dk_at dksX4_init_0 0 rfl rfl)
theorem dX4_init_1 : decode cX4_init 1 = .ok (.invokespecial 1, 3) := dk_183 0 1 (dk_at dksX4_init_0 1 rfl rfl)
theorem dX4_init_4 : decode cX4_init 4 = .ok (.aload_n 0, 1) := dk_42 (dk_at dksX4_init_0 4 rfl rfl)
theorem dX4_init_5 : decode cX4_init 5 = .ok (.iconst 2, 1) := dk_5 (dk_at dksX4_init_0 5 rfl rfl)
theorem dX4_init_6 : decode cX4_init 6 = .ok (.anewarray 7, 3) := dk_189 0 7 (dk_at dksX4_init_0 6 rfl rfl)
theorem dX4_init_9 : decode cX4_init 9 = .ok (.putfield 9, 3) := dk_181 0 9 (dk_at dksX4_init_0 9 rfl rfl)
theorem dX4_init_12 : decode cX4_init 12 = .ok (.aload_n 0, 1) := dk_42 (dk_at dksX4_init_0 12 rfl rfl)
theorem dX4_init_13 : decode cX4_init 13 = .ok (.new 15, 3) := dk_187 0 15 (dk_at dksX4_init_0 13 rfl rfl)
theorem dX4_init_16 : decode cX4_init 16 = .ok (.dup, 1) := dk_89 (dk_at dksX4_init_0 16 rfl rfl)
theorem dX4_init_17 : decode cX4_init 17 = .ok (.invokespecial 17, 3) := dk_183 0 17 (dk_at dksX4_init_0 17 rfl rfl)
theorem dX4_init_20 : decode cX4_init 20 = .ok (.putfield 18, 3) := dk_181 0 18 (dk_at dksX4_init_0 20 rfl rfl)
theorem dX4_init_23 : decode cX4_init 23 = .ok (.return_, 1) := dk_177 (dk_at dksX4_init_0 23 rfl rfl)
theorem q127 : (Jvm.Cond.initialized "RailingsCount$Text") ∈ lw_all := lw_g (lw_at lw_m1 7 rfl) rfl
theorem q342 : (Jvm.Cond.instantiable "RailingsCount$Text" (3 : Nat)) ∈ lw_all := lw_g (lw_at lw_m1 222 rfl) rfl
theorem q344 : (Jvm.Cond.instanceMethod ({ cls := "RailingsCount$Text", name := "<init>", desc := "()V" } : Jvm.MethodName)) ∈ lw_all := lw_g (lw_at lw_m1 224 rfl) rfl
theorem q345 : (Jvm.Cond.code ({ cls := "RailingsCount$Text", name := "<init>", desc := "()V" } : Jvm.MethodName) prog_16_method_1_code (1 : Nat) (Option.none : Option Jvm.ClassFile.FieldType)) ∈ lw_all := lw_g (lw_at lw_m1 225 rfl) rfl
theorem q346 : (Jvm.Cond.methodLink "RailingsCount$Text" (1 : Nat) ({ cls := "java/lang/Object", name := "<init>", desc := "()V" } : Jvm.MethodName)) ∈ lw_all := lw_g (lw_at lw_m1 226 rfl) rfl
theorem q347 : (Jvm.Cond.classLink "RailingsCount$Text" (7 : Nat) "RailingsCount$Sum") ∈ lw_all := lw_g (lw_at lw_m1 227 rfl) rfl
theorem q349 : (Jvm.Cond.classLink "RailingsCount$Text" (15 : Nat) "java/util/ArrayList") ∈ lw_all := lw_g (lw_at lw_m1 229 rfl) rfl
theorem q351 : (Jvm.Cond.methodLink "RailingsCount$Text" (17 : Nat) ({ cls := "java/util/ArrayList", name := "<init>", desc := "()V" } : Jvm.MethodName)) ∈ lw_all := lw_g (lw_at lw_m1 231 rfl) rfl
theorem q375 : (Jvm.Cond.fieldLink "RailingsCount$Text" (9 : Nat) "RailingsCount$Text" "law" "[LRailingsCount$Sum;") ∈ lw_all := lw_g (lw_at lw_m2 15 rfl) rfl
theorem q379 : (Jvm.Cond.fieldLink "RailingsCount$Text" (18 : Nat) "RailingsCount$Text" "doings" "Ljava/util/ArrayList;") ∈ lw_all := lw_g (lw_at lw_m2 19 rfl) rfl
theorem q382 : (Jvm.Cond.laysFinal "RailingsCount$Text" "RailingsCount$Text" "law" "[LRailingsCount$Sum;") ∈ lw_all := lw_g (lw_at lw_m2 22 rfl) rfl
theorem q383 : (Jvm.Cond.soleField "RailingsCount$Text" "law") ∈ lw_all := lw_g (lw_at lw_m2 23 rfl) rfl
theorem q384 : (Jvm.Cond.lays "RailingsCount$Text" "RailingsCount$Text" "clauses" "I") ∈ lw_all := lw_g (lw_at lw_m2 24 rfl) rfl
theorem q385 : (Jvm.Cond.soleField "RailingsCount$Text" "clauses") ∈ lw_all := lw_g (lw_at lw_m2 25 rfl) rfl
theorem q386 : (Jvm.Cond.laysFinal "RailingsCount$Text" "RailingsCount$Text" "doings" "Ljava/util/ArrayList;") ∈ lw_all := lw_g (lw_at lw_m2 26 rfl) rfl
theorem q387 : (Jvm.Cond.soleField "RailingsCount$Text" "doings") ∈ lw_all := lw_g (lw_at lw_m2 27 rfl) rfl
theorem q388 : (Jvm.Cond.superclass "RailingsCount$Text" "java/lang/Object") ∈ lw_all := lw_g (lw_at lw_m2 28 rfl) rfl
theorem q650 : (Jvm.Cond.selects "RailingsCount$Text" ({ cls := "java/lang/Object", name := "getClass", desc := "()Ljava/lang/Class;" } : Jvm.MethodName) ({ cls := "java/lang/Object", name := "getClass", desc := "()Ljava/lang/Class;" } : Jvm.MethodName)) ∈ lw_all := lw_g (lw_at lw_m3 50 rfl) rfl
theorem q2015 : (Jvm.Cond.castable "RailingsCount$Text" "java/lang/Object") ∈ lw_tbl := lw_at lw_m8 215 rfl
theorem in_X4 : ∀ w ∈ wsX40, w ∈ lw_all := lw_in wsX40 [382, 384, 386] (by decide +kernel) (by decide +kernel)
