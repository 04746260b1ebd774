/-! RailingsCountModel -/
set_option maxRecDepth 100000
def RX2 : String := "RailingsCountModel"
def TX2 : u_T := fun k => match k with
  | 0 => ("RailingsCountModel", "a", "[I", true)
  | 1 => ("RailingsCountModel", "image", "[I", true)
  | 2 => ("RailingsCountModel", "texts", "[I", true)
  | 3 => ("RailingsCountModel", "tape", "[I", true)
  | 4 => ("RailingsCountModel", "taped", "I", false)
  | 5 => ("RailingsCountModel", "fault", "I", false)
  | 6 => ("RailingsCountModel", "faultPlace", "I", false)
  | 7 => ("RailingsCountModel", "at", "I", false)
  | 8 => ("RailingsCountModel", "place", "I", false)
  | 9 => ("RailingsCountModel", "token", "I", false)
  | 10 => ("RailingsCountModel", "number", "I", false)
  | 11 => ("RailingsCountModel", "word", "J", false)
  | 12 => ("RailingsCountModel", "text0", "I", false)
  | 13 => ("RailingsCountModel", "written", "I", false)
  | 14 => ("RailingsCountModel", "sort0", "I", false)
  | 15 => ("RailingsCountModel", "pile", "[I", true)
  | 16 => ("RailingsCountModel", "piled", "I", false)
  | 17 => ("RailingsCountModel", "opens", "I", false)
  | 18 => ("RailingsCountModel", "isWhole", "Z", false)
  | 19 => ("RailingsCountModel", "once", "I", false)
  | 20 => ("RailingsCountModel", "named", "[I", true)
  | 21 => ("RailingsCountModel", "values", "[J", true)
  | 22 => ("RailingsCountModel", "truth", "[Z", true)
  | 23 => ("RailingsCountModel", "isWritten", "Z", false)
  | 24 => ("RailingsCountModel", "runs", "I", false)
  | 25 => ("RailingsCountModel", "aside", "[I", true)
  | 26 => ("RailingsCountModel", "bars", "[I", true)
  | 27 => ("RailingsCountModel", "barred", "I", false)
  | 28 => ("RailingsCountModel", "worths", "[J", true)
  | 29 => ("RailingsCountModel", "canBes", "[Z", true)
  | 30 => ("RailingsCountModel", "left", "[I", true)
  | _ => ("RailingsCountModel", "costs", "[I", true)
def tyX2 : Nat → FieldType := fun k => match k with
  | 0 => .array .int
  | 1 => .array .int
  | 2 => .array .int
  | 3 => .array .int
  | 4 => .int
  | 5 => .int
  | 6 => .int
  | 7 => .int
  | 8 => .int
  | 9 => .int
  | 10 => .int
  | 11 => .long
  | 12 => .int
  | 13 => .int
  | 14 => .int
  | 15 => .array .int
  | 16 => .int
  | 17 => .int
  | 18 => .boolean
  | 19 => .int
  | 20 => .array .int
  | 21 => .array .long
  | 22 => .array .boolean
  | 23 => .boolean
  | 24 => .int
  | 25 => .array .int
  | 26 => .array .int
  | 27 => .int
  | 28 => .array .long
  | 29 => .array .boolean
  | 30 => .array .int
  | _ => .array .int
abbrev wsX20 : List Cond := u_ws RX2 TX2 32
set_option maxRecDepth 100000 in
theorem nmX2 : ∀ a, a < 32 → ∀ b, b < 32 → a ≠ b → (TX2 a).2.1 ≠ (TX2 b).2.1 := by decide +kernel
set_option maxRecDepth 100000 in
theorem tyX2_ok : ∀ k, k < 32 → parseFieldDescriptor (TX2 k).2.2.1 = some (tyX2 k) := by decide +kernel
abbrev cX2_init : ByteArray := prog_20_method_1_code
def yX2_init : MethodName := ⟨RX2, "<init>", "()V"⟩
def dkwX2_init_9 : List UInt8 := [184, 0, 65, 177]
abbrev dktX2_init_9 : List UInt8 := dkwX2_init_9 ++ []
def dkwX2_init_8 : List UInt8 := [42, 180, 0, 7, 16, 90, 27, 96, 27, 79, 132, 1, 1, 167, 255, 237, 42, 180, 0, 7, 42, 180, 0, 13]
abbrev dktX2_init_8 : List UInt8 := dkwX2_init_8 ++ dktX2_init_9
def dkwX2_init_7 : List UInt8 := [42, 180, 0, 7, 16, 9, 27, 96, 4, 79, 132, 1, 1, 167, 255, 237, 3, 60, 27, 16, 12, 163, 0, 19]
abbrev dktX2_init_7 : List UInt8 := dkwX2_init_7 ++ dktX2_init_8
def dkwX2_init_6 : List UInt8 := [180, 0, 7, 16, 7, 17, 1, 7, 79, 42, 180, 0, 7, 5, 2, 79, 3, 60, 27, 16, 30, 162, 0, 19]
abbrev dktX2_init_6 : List UInt8 := dkwX2_init_6 ++ dktX2_init_7
def dkwX2_init_5 : List UInt8 := [188, 4, 181, 0, 56, 42, 16, 13, 188, 10, 181, 0, 59, 42, 17, 3, 132, 188, 10, 181, 0, 62, 42]
abbrev dktX2_init_5 : List UInt8 := dkwX2_init_5 ++ dktX2_init_6
def dkwX2_init_4 : List UInt8 := [181, 0, 47, 42, 16, 60, 188, 10, 181, 0, 50, 42, 16, 13, 188, 11, 181, 0, 53, 42, 17, 16, 0]
abbrev dktX2_init_4 : List UInt8 := dkwX2_init_4 ++ dktX2_init_5
def dkwX2_init_3 : List UInt8 := [188, 11, 181, 0, 35, 42, 17, 1, 74, 188, 4, 181, 0, 39, 42, 4, 181, 0, 43, 42, 16, 76, 188, 10]
abbrev dktX2_init_3 : List UInt8 := dkwX2_init_3 ++ dktX2_init_4
def dkwX2_init_2 : List UInt8 := [181, 0, 26, 42, 17, 0, 160, 188, 10, 181, 0, 29, 42, 16, 8, 188, 10, 181, 0, 32, 42, 17, 1, 74]
abbrev dktX2_init_2 : List UInt8 := dkwX2_init_2 ++ dktX2_init_3
def dkwX2_init_1 : List UInt8 := [17, 10, 164, 188, 10, 181, 0, 16, 42, 17, 1, 44, 188, 10, 181, 0, 19, 42, 2, 181, 0, 22, 42, 2]
abbrev dktX2_init_1 : List UInt8 := dkwX2_init_1 ++ dktX2_init_2
def dkwX2_init_0 : List UInt8 := [42, 183, 0, 1, 42, 17, 12, 133, 188, 10, 181, 0, 7, 42, 17, 12, 133, 188, 10, 181, 0, 13, 42]
abbrev dktX2_init_0 : List UInt8 := dkwX2_init_0 ++ dktX2_init_1
theorem dksX2_init_0 : cX2_init.data.toList.drop 0 = dktX2_init_0 := by decide +kernel
theorem dksX2_init_1 : cX2_init.data.toList.drop 23 = dktX2_init_1 := dk_seg dksX2_init_0 23 rfl rfl
theorem dksX2_init_2 : cX2_init.data.toList.drop 47 = dktX2_init_2 := dk_seg dksX2_init_1 24 rfl rfl
theorem dksX2_init_3 : cX2_init.data.toList.drop 71 = dktX2_init_3 := dk_seg dksX2_init_2 24 rfl rfl
theorem dksX2_init_4 : cX2_init.data.toList.drop 95 = dktX2_init_4 := dk_seg dksX2_init_3 24 rfl rfl
theorem dksX2_init_5 : cX2_init.data.toList.drop 118 = dktX2_init_5 := dk_seg dksX2_init_4 23 rfl rfl
theorem dksX2_init_6 : cX2_init.data.toList.drop 141 = dktX2_init_6 := dk_seg dksX2_init_5 23 rfl rfl
theorem dksX2_init_7 : cX2_init.data.toList.drop 165 = dktX2_init_7 := dk_seg dksX2_init_6 24 rfl rfl
theorem dksX2_init_8 : cX2_init.data.toList.drop 189 = dktX2_init_8 := dk_seg dksX2_init_7 24 rfl rfl
theorem dksX2_init_9 : cX2_init.data.toList.drop 213 = dktX2_init_9 := dk_seg dksX2_init_8 24 rfl rfl
theorem dX2_init_0 : decode cX2_init 0 = .ok (.aload_n 0, 1) := dk_42 (dk_at dksX2_init_0 0 rfl rfl)
theorem dX2_init_1 : decode cX2_init 1 = .ok (.invokespecial 1, 3) := dk_183 0 1 (dk_at dksX2_init_0 1 rfl rfl)
theorem dX2_init_4 : decode cX2_init 4 = .ok (.aload_n 0, 1) := dk_42 (dk_at dksX2_init_0 4 rfl rfl)
theorem dX2_init_5 : decode cX2_init 5 = .ok (.sipush 3205, 3) := dk_17 12 133 (dk_at dksX2_init_0 5 rfl rfl)
theorem dX2_init_8 : decode cX2_init 8 = .ok (.newarray .int, 2) := dk_188_10 (dk_at dksX2_init_0 8 rfl rfl)
theorem dX2_init_10 : decode cX2_init 10 = .ok (.putfield 7, 3) := dk_181 0 7 (dk_at dksX2_init_0 10 rfl rfl)
theorem dX2_init_13 : decode cX2_init 13 = .ok (.aload_n 0, 1) := dk_42 (dk_at dksX2_init_0 13 rfl rfl)
theorem dX2_init_14 : decode cX2_init 14 = .ok (.sipush 3205, 3) := dk_17 12 133 (dk_at dksX2_init_0 14 rfl rfl)
theorem dX2_init_17 : decode cX2_init 17 = .ok (.newarray .int, 2) := dk_188_10 (dk_at dksX2_init_0 17 rfl rfl)
theorem dX2_init_19 : decode cX2_init 19 = .ok (.putfield 13, 3) := dk_181 0 13 (dk_at dksX2_init_0 19 rfl rfl)
theorem dX2_init_22 : decode cX2_init 22 = .ok (.aload_n 0, 1) := dk_42 (dk_at dksX2_init_0 22 rfl rfl)
theorem dX2_init_23 : decode cX2_init 23 = .ok (.sipush 2724, 3) := dk_17 10 164 (dk_at dksX2_init_1 0 rfl rfl)
theorem dX2_init_26 : decode cX2_init 26 = .ok (.newarray .int, 2) := dk_188_10 (dk_at dksX2_init_1 3 rfl rfl)
theorem dX2_init_28 : decode cX2_init 28 = .ok (.putfield 16, 3) := dk_181 0 16 (dk_at dksX2_init_1 5 rfl rfl)
theorem dX2_init_31 : decode cX2_init 31 = .ok (.aload_n 0, 1) := dk_42 (dk_at dksX2_init_1 8 rfl rfl)
theorem dX2_init_32 : decode cX2_init 32 = .ok (.sipush 300, 3) := dk_17 1 44 (dk_at dksX2_init_1 9 rfl rfl)
theorem dX2_init_35 : decode cX2_init 35 = .ok (.newarray .int, 2) := dk_188_10 (dk_at dksX2_init_1 12 rfl rfl)
theorem dX2_init_37 : decode cX2_init 37 = .ok (.putfield 19, 3) := dk_181 0 19 (dk_at dksX2_init_1 14 rfl rfl)
theorem dX2_init_40 : decode cX2_init 40 = .ok (.aload_n 0, 1) := dk_42 (dk_at dksX2_init_1 17 rfl rfl)
theorem dX2_init_41 : decode cX2_init 41 = .ok (.iconst (-1), 1) := dk_2 (dk_at dksX2_init_1 18 rfl rfl)
theorem dX2_init_42 : decode cX2_init 42 = .ok (.putfield 22, 3) := dk_181 0 22 (dk_at dksX2_init_1 19 rfl rfl)
theorem dX2_init_45 : decode cX2_init 45 = .ok (.aload_n 0, 1) := dk_42 (dk_at dksX2_init_1 22 rfl rfl)
theorem dX2_init_46 : decode cX2_init 46 = .ok (.iconst (-1), 1) := dk_2 (dk_at dksX2_init_1 23 rfl rfl)
theorem dX2_init_47 : decode cX2_init 47 = .ok (.putfield 26, 3) := dk_181 0 26 (dk_at dksX2_init_2 0 rfl rfl)
theorem dX2_init_50 : decode cX2_init 50 = .ok (.aload_n 0, 1) := dk_42 (dk_at dksX2_init_2 3 rfl rfl)
theorem dX2_init_51 : decode cX2_init 51 = .ok (.sipush 160, 3) := dk_17 0 160 (dk_at dksX2_init_2 4 rfl rfl)
theorem dX2_init_54 : decode cX2_init 54 = .ok (.newarray .int, 2) := dk_188_10 (dk_at dksX2_init_2 7 rfl rfl)
theorem dX2_init_56 : decode cX2_init 56 = .ok (.putfield 29, 3) := dk_181 0 29 (dk_at dksX2_init_2 9 rfl rfl)
theorem dX2_init_59 : decode cX2_init 59 = .ok (.aload_n 0, 1) := dk_42 (dk_at dksX2_init_2 12 rfl rfl)
theorem dX2_init_60 : decode cX2_init 60 = .ok (.bipush 8, 2) := dk_16 8 (dk_at dksX2_init_2 13 rfl rfl)
theorem dX2_init_62 : decode cX2_init 62 = .ok (.newarray .int, 2) := dk_188_10 (dk_at dksX2_init_2 15 rfl rfl)
theorem dX2_init_64 : decode cX2_init 64 = .ok (.putfield 32, 3) := dk_181 0 32 (dk_at dksX2_init_2 17 rfl rfl)
theorem dX2_init_67 : decode cX2_init 67 = .ok (.aload_n 0, 1) := dk_42 (dk_at dksX2_init_2 20 rfl rfl)
theorem dX2_init_68 : decode cX2_init 68 = .ok (.sipush 330, 3) := dk_17 1 74 (dk_at dksX2_init_2 21 rfl rfl)
theorem dX2_init_71 : decode cX2_init 71 = .ok (.newarray .long, 2) := dk_188_11 (dk_at dksX2_init_3 0 rfl rfl)
theorem dX2_init_73 : decode cX2_init 73 = .ok (.putfield 35, 3) := dk_181 0 35 (dk_at dksX2_init_3 2 rfl rfl)
theorem dX2_init_76 : decode cX2_init 76 = .ok (.aload_n 0, 1) := dk_42 (dk_at dksX2_init_3 5 rfl rfl)
theorem dX2_init_77 : decode cX2_init 77 = .ok (.sipush 330, 3) := dk_17 1 74 (dk_at dksX2_init_3 6 rfl rfl)
theorem dX2_init_80 : decode cX2_init 80 = .ok (.newarray .boolean, 2) := dk_188_4 (dk_at dksX2_init_3 9 rfl rfl)
theorem dX2_init_82 : decode cX2_init 82 = .ok (.putfield 39, 3) := dk_181 0 39 (dk_at dksX2_init_3 11 rfl rfl)
theorem dX2_init_85 : decode cX2_init 85 = .ok (.aload_n 0, 1) := dk_42 (dk_at dksX2_init_3 14 rfl rfl)
theorem dX2_init_86 : decode cX2_init 86 = .ok (.iconst 1, 1) := dk_4 (dk_at dksX2_init_3 15 rfl rfl)
theorem dX2_init_87 : decode cX2_init 87 = .ok (.putfield 43, 3) := dk_181 0 43 (dk_at dksX2_init_3 16 rfl rfl)
theorem dX2_init_90 : decode cX2_init 90 = .ok (.aload_n 0, 1) := dk_42 (dk_at dksX2_init_3 19 rfl rfl)
theorem dX2_init_91 : decode cX2_init 91 = .ok (.bipush 76, 2) := dk_16 76 (dk_at dksX2_init_3 20 rfl rfl)
theorem dX2_init_93 : decode cX2_init 93 = .ok (.newarray .int, 2) := dk_188_10 (dk_at dksX2_init_3 22 rfl rfl)
theorem dX2_init_95 : decode cX2_init 95 = .ok (.putfield 47, 3) := dk_181 0 47 (dk_at dksX2_init_4 0 rfl rfl)
theorem dX2_init_98 : decode cX2_init 98 = .ok (.aload_n 0, 1) := dk_42 (dk_at dksX2_init_4 3 rfl rfl)
theorem dX2_init_99 : decode cX2_init 99 = .ok (.bipush 60, 2) := dk_16 60 (dk_at dksX2_init_4 4 rfl rfl)
theorem dX2_init_101 : decode cX2_init 101 = .ok (.newarray .int, 2) := dk_188_10 (dk_at dksX2_init_4 6 rfl rfl)
theorem dX2_init_103 : decode cX2_init 103 = .ok (.putfield 50, 3) := dk_181 0 50 (dk_at dksX2_init_4 8 rfl rfl)
theorem dX2_init_106 : decode cX2_init 106 = .ok (.aload_n 0, 1) := dk_42 (dk_at dksX2_init_4 11 rfl rfl)
theorem dX2_init_107 : decode cX2_init 107 = .ok (.bipush 13, 2) := dk_16 13 (dk_at dksX2_init_4 12 rfl rfl)
theorem dX2_init_109 : decode cX2_init 109 = .ok (.newarray .long, 2) := dk_188_11 (dk_at dksX2_init_4 14 rfl rfl)
theorem dX2_init_111 : decode cX2_init 111 = .ok (.putfield 53, 3) := dk_181 0 53 (dk_at dksX2_init_4 16 rfl rfl)
theorem dX2_init_114 : decode cX2_init 114 = .ok (.aload_n 0, 1) := dk_42 (dk_at dksX2_init_4 19 rfl rfl)
theorem dX2_init_115 : decode cX2_init 115 = .ok (.sipush 4096, 3) := dk_17 16 0 (dk_at dksX2_init_4 20 rfl rfl)
theorem dX2_init_118 : decode cX2_init 118 = .ok (.newarray .boolean, 2) := dk_188_4 (dk_at dksX2_init_5 0 rfl rfl)
theorem dX2_init_120 : decode cX2_init 120 = .ok (.putfield 56, 3) := dk_181 0 56 (dk_at dksX2_init_5 2 rfl rfl)
theorem dX2_init_123 : decode cX2_init 123 = .ok (.aload_n 0, 1) := dk_42 (dk_at dksX2_init_5 5 rfl rfl)
theorem dX2_init_124 : decode cX2_init 124 = .ok (.bipush 13, 2) := dk_16 13 (dk_at dksX2_init_5 6 rfl rfl)
theorem dX2_init_126 : decode cX2_init 126 = .ok (.newarray .int, 2) := dk_188_10 (dk_at dksX2_init_5 8 rfl rfl)
theorem dX2_init_128 : decode cX2_init 128 = .ok (.putfield 59, 3) := dk_181 0 59 (dk_at dksX2_init_5 10 rfl rfl)
theorem dX2_init_131 : decode cX2_init 131 = .ok (.aload_n 0, 1) := dk_42 (dk_at dksX2_init_5 13 rfl rfl)
theorem dX2_init_132 : decode cX2_init 132 = .ok (.sipush 900, 3) := dk_17 3 132 (dk_at dksX2_init_5 14 rfl rfl)
theorem dX2_init_135 : decode cX2_init 135 = .ok (.newarray .int, 2) := dk_188_10 (dk_at dksX2_init_5 17 rfl rfl)
theorem dX2_init_137 : decode cX2_init 137 = .ok (.putfield 62, 3) := dk_181 0 62 (dk_at dksX2_init_5 19 rfl rfl)
theorem dX2_init_140 : decode cX2_init 140 = .ok (.aload_n 0, 1) := dk_42 (dk_at dksX2_init_5 22 rfl rfl)
theorem dX2_init_141 : decode cX2_init 141 = .ok (.getfield 7, 3) := dk_180 0 7 (dk_at dksX2_init_6 0 rfl rfl)
theorem dX2_init_144 : decode cX2_init 144 = .ok (.bipush 7, 2) := dk_16 7 (dk_at dksX2_init_6 3 rfl rfl)
theorem dX2_init_146 : decode cX2_init 146 = .ok (.sipush 263, 3) := dk_17 1 7 (dk_at dksX2_init_6 5 rfl rfl)
theorem dX2_init_149 : decode cX2_init 149 = .ok (.iastore, 1) := dk_79 (dk_at dksX2_init_6 8 rfl rfl)
theorem dX2_init_150 : decode cX2_init 150 = .ok (.aload_n 0, 1) := dk_42 (dk_at dksX2_init_6 9 rfl rfl)
theorem dX2_init_151 : decode cX2_init 151 = .ok (.getfield 7, 3) := dk_180 0 7 (dk_at dksX2_init_6 10 rfl rfl)
theorem dX2_init_154 : decode cX2_init 154 = .ok (.iconst 2, 1) := dk_5 (dk_at dksX2_init_6 13 rfl rfl)
theorem dX2_init_155 : decode cX2_init 155 = .ok (.iconst (-1), 1) := dk_2 (dk_at dksX2_init_6 14 rfl rfl)
theorem dX2_init_156 : decode cX2_init 156 = .ok (.iastore, 1) := dk_79 (dk_at dksX2_init_6 15 rfl rfl)
theorem dX2_init_157 : decode cX2_init 157 = .ok (.iconst 0, 1) := dk_3 (dk_at dksX2_init_6 16 rfl rfl)
theorem dX2_init_158 : decode cX2_init 158 = .ok (.istore_n 1, 1) := dk_60 (dk_at dksX2_init_6 17 rfl rfl)
theorem dX2_init_159 : decode cX2_init 159 = .ok (.iload_n 1, 1) := dk_27 (dk_at dksX2_init_6 18 rfl rfl)
theorem dX2_init_160 : decode cX2_init 160 = .ok (.bipush 30, 2) := dk_16 30 (dk_at dksX2_init_6 19 rfl rfl)
theorem dX2_init_162 : decode cX2_init 162 = .ok (.if_icmp .ge 19, 3) := dk_162 0 19 (dk_at dksX2_init_6 21 rfl rfl)
theorem dX2_init_165 : decode cX2_init 165 = .ok (.aload_n 0, 1) := dk_42 (dk_at dksX2_init_7 0 rfl rfl)
theorem dX2_init_166 : decode cX2_init 166 = .ok (.getfield 7, 3) := dk_180 0 7 (dk_at dksX2_init_7 1 rfl rfl)
theorem dX2_init_169 : decode cX2_init 169 = .ok (.bipush 9, 2) := dk_16 9 (dk_at dksX2_init_7 4 rfl rfl)
theorem dX2_init_171 : decode cX2_init 171 = .ok (.iload_n 1, 1) := dk_27 (dk_at dksX2_init_7 6 rfl rfl)
theorem dX2_init_172 : decode cX2_init 172 = .ok (.iadd, 1) := dk_96 (dk_at dksX2_init_7 7 rfl rfl)
theorem dX2_init_173 : decode cX2_init 173 = .ok (.iconst 1, 1) := dk_4 (dk_at dksX2_init_7 8 rfl rfl)
theorem dX2_init_174 : decode cX2_init 174 = .ok (.iastore, 1) := dk_79 (dk_at dksX2_init_7 9 rfl rfl)
theorem dX2_init_175 : decode cX2_init 175 = .ok (.iinc 1 1, 3) := dk_132 1 1 (dk_at dksX2_init_7 10 rfl rfl)
theorem dX2_init_178 : decode cX2_init 178 = .ok (.goto (-19), 3) := dk_167 255 237 (dk_at dksX2_init_7 13 rfl rfl)
theorem dX2_init_181 : decode cX2_init 181 = .ok (.iconst 0, 1) := dk_3 (dk_at dksX2_init_7 16 rfl rfl)
theorem dX2_init_182 : decode cX2_init 182 = .ok (.istore_n 1, 1) := dk_60 (dk_at dksX2_init_7 17 rfl rfl)
theorem dX2_init_183 : decode cX2_init 183 = .ok (.iload_n 1, 1) := dk_27 (dk_at dksX2_init_7 18 rfl rfl)
theorem dX2_init_184 : decode cX2_init 184 = .ok (.bipush 12, 2) := dk_16 12 (dk_at dksX2_init_7 19 rfl rfl)
theorem dX2_init_186 : decode cX2_init 186 = .ok (.if_icmp .gt 19, 3) := dk_163 0 19 (dk_at dksX2_init_7 21 rfl rfl)
theorem dX2_init_189 : decode cX2_init 189 = .ok (.aload_n 0, 1) := dk_42 (dk_at dksX2_init_8 0 rfl rfl)
theorem dX2_init_190 : decode cX2_init 190 = .ok (.getfield 7, 3) := dk_180 0 7 (dk_at dksX2_init_8 1 rfl rfl)
theorem dX2_init_193 : decode cX2_init 193 = .ok (.bipush 90, 2) := dk_16 90 (dk_at dksX2_init_8 4 rfl rfl)
theorem dX2_init_195 : decode cX2_init 195 = .ok (.iload_n 1, 1) := dk_27 (dk_at dksX2_init_8 6 rfl rfl)
theorem dX2_init_196 : decode cX2_init 196 = .ok (.iadd, 1) := dk_96 (dk_at dksX2_init_8 7 rfl rfl)
theorem dX2_init_197 : decode cX2_init 197 = .ok (.iload_n 1, 1) := dk_27 (dk_at dksX2_init_8 8 rfl rfl)
theorem dX2_init_198 : decode cX2_init 198 = .ok (.iastore, 1) := dk_79 (dk_at dksX2_init_8 9 rfl rfl)
theorem dX2_init_199 : decode cX2_init 199 = .ok (.iinc 1 1, 3) := dk_132 1 1 (dk_at dksX2_init_8 10 rfl rfl)
theorem dX2_init_202 : decode cX2_init 202 = .ok (.goto (-19), 3) := dk_167 255 237 (dk_at dksX2_init_8 13 rfl rfl)
theorem dX2_init_205 : decode cX2_init 205 = .ok (.aload_n 0, 1) := dk_42 (dk_at dksX2_init_8 16 rfl rfl)
theorem dX2_init_206 : decode cX2_init 206 = .ok (.getfield 7, 3) := dk_180 0 7 (dk_at dksX2_init_8 17 rfl rfl)
theorem dX2_init_209 : decode cX2_init 209 = .ok (.aload_n 0, 1) := dk_42 (dk_at dksX2_init_8 20 rfl rfl)
theorem dX2_init_210 : decode cX2_init 210 = .ok (.getfield 13, 3) := dk_180 0 13 (dk_at dksX2_init_8 21 rfl rfl)
theorem dX2_init_213 : decode cX2_init 213 = .ok (.invokestatic 65, 3) := dk_184 0 65 (dk_at dksX2_init_9 0 rfl rfl)
theorem dX2_init_216 : decode cX2_init 216 = .ok (.return_, 1) := dk_177 (dk_at dksX2_init_9 3 rfl rfl)
abbrev cX2_copy : ByteArray := prog_20_method_2_code
def yX2_copy : MethodName := ⟨RX2, "copy", "([I[I)V"⟩
def dkwX2_copy_0 : List UInt8 := [3, 61, 28, 17, 12, 133, 162, 0, 15, 43, 28, 42, 28, 46, 79, 132, 2, 1, 167, 255, 240, 177]
abbrev dktX2_copy_0 : List UInt8 := dkwX2_copy_0 ++ []
theorem dksX2_copy_0 : cX2_copy.data.toList.drop 0 = dktX2_copy_0 := by decide +kernel
theorem dX2_copy_0 : decode cX2_copy 0 = .ok (.iconst 0, 1) := dk_3 (dk_at dksX2_copy_0 0 rfl rfl)
theorem dX2_copy_1 : decode cX2_copy 1 = .ok (.istore_n 2, 1) := dk_61 (dk_at dksX2_copy_0 1 rfl rfl)
theorem dX2_copy_2 : decode cX2_copy 2 = .ok (.iload_n 2, 1) := dk_28 (dk_at dksX2_copy_0 2 rfl rfl)
theorem dX2_copy_3 : decode cX2_copy 3 = .ok (.sipush 3205, 3) := dk_17 12 133 (dk_at dksX2_copy_0 3 rfl rfl)
theorem dX2_copy_6 : decode cX2_copy 6 = .ok (.if_icmp .ge 15, 3) := dk_162 0 15 (dk_at dksX2_copy_0 6 rfl rfl)
theorem dX2_copy_9 : decode cX2_copy 9 = .ok (.aload_n 1, 1) := dk_43 (dk_at dksX2_copy_0 9 rfl rfl)
theorem dX2_copy_10 : decode cX2_copy 10 = .ok (.iload_n 2, 1) := dk_28 (dk_at dksX2_copy_0 10 rfl rfl)
theorem dX2_copy_11 : decode cX2_copy 11 = .ok (.aload_n 0, 1) := dk_42 (dk_at dksX2_copy_0 11 rfl rfl)
theorem dX2_copy_12 : decode cX2_copy 12 = .ok (.iload_n 2, 1) := dk_28 (dk_at dksX2_copy_0 12 rfl rfl)
theorem dX2_copy_13 : decode cX2_copy 13 = .ok (.iaload, 1) := dk_46 (dk_at dksX2_copy_0 13 rfl rfl)
theorem dX2_copy_14 : decode cX2_copy 14 = .ok (.iastore, 1) := dk_79 (dk_at dksX2_copy_0 14 rfl rfl)
theorem dX2_copy_15 : decode cX2_copy 15 = .ok (.iinc 2 1, 3) := dk_132 2 1 (dk_at dksX2_copy_0 15 rfl rfl)
theorem dX2_copy_18 : decode cX2_copy 18 = .ok (.goto (-16), 3) := dk_167 255 240 (dk_at dksX2_copy_0 18 rfl rfl)
theorem dX2_copy_21 : decode cX2_copy 21 = .ok (.return_, 1) := dk_177 (dk_at dksX2_copy_0 21 rfl rfl)
abbrev cX2_bar : ByteArray := prog_20_method_11_code
def yX2_bar : MethodName := ⟨RX2, "bar", "(II)Z"⟩
def dkwX2_bar_1 : List UInt8 := [182, 0, 77, 4, 172]
abbrev dktX2_bar_1 : List UInt8 := dkwX2_bar_1 ++ []
def dkwX2_bar_0 : List UInt8 := [27, 184, 0, 73, 153, 0, 12, 28, 3, 6, 184, 0, 69, 154, 0, 5, 3, 172, 42, 16, 9, 27, 96, 28]
abbrev dktX2_bar_0 : List UInt8 := dkwX2_bar_0 ++ dktX2_bar_1
theorem dksX2_bar_0 : cX2_bar.data.toList.drop 0 = dktX2_bar_0 := by decide +kernel
theorem dksX2_bar_1 : cX2_bar.data.toList.drop 24 = dktX2_bar_1 := dk_seg dksX2_bar_0 24 rfl rfl
theorem dX2_bar_0 : decode cX2_bar 0 = .ok (.iload_n 1, 1) := dk_27 (dk_at dksX2_bar_0 0 rfl rfl)
theorem dX2_bar_1 : decode cX2_bar 1 = .ok (.invokestatic 73, 3) := dk_184 0 73 (dk_at dksX2_bar_0 1 rfl rfl)
theorem dX2_bar_4 : decode cX2_bar 4 = .ok (.ifCond .eq 12, 3) := dk_153 0 12 (dk_at dksX2_bar_0 4 rfl rfl)
theorem dX2_bar_7 : decode cX2_bar 7 = .ok (.iload_n 2, 1) := dk_28 (dk_at dksX2_bar_0 7 rfl rfl)
theorem dX2_bar_8 : decode cX2_bar 8 = .ok (.iconst 0, 1) := dk_3 (dk_at dksX2_bar_0 8 rfl rfl)
theorem dX2_bar_9 : decode cX2_bar 9 = .ok (.iconst 3, 1) := dk_6 (dk_at dksX2_bar_0 9 rfl rfl)
theorem dX2_bar_10 : decode cX2_bar 10 = .ok (.invokestatic 69, 3) := dk_184 0 69 (dk_at dksX2_bar_0 10 rfl rfl)
theorem dX2_bar_13 : decode cX2_bar 13 = .ok (.ifCond .ne 5, 3) := dk_154 0 5 (dk_at dksX2_bar_0 13 rfl rfl)
theorem dX2_bar_16 : decode cX2_bar 16 = .ok (.iconst 0, 1) := dk_3 (dk_at dksX2_bar_0 16 rfl rfl)
theorem dX2_bar_17 : decode cX2_bar 17 = .ok (.ireturn, 1) := dk_172 (dk_at dksX2_bar_0 17 rfl rfl)
theorem dX2_bar_18 : decode cX2_bar 18 = .ok (.aload_n 0, 1) := dk_42 (dk_at dksX2_bar_0 18 rfl rfl)
theorem dX2_bar_19 : decode cX2_bar 19 = .ok (.bipush 9, 2) := dk_16 9 (dk_at dksX2_bar_0 19 rfl rfl)
theorem dX2_bar_21 : decode cX2_bar 21 = .ok (.iload_n 1, 1) := dk_27 (dk_at dksX2_bar_0 21 rfl rfl)
theorem dX2_bar_22 : decode cX2_bar 22 = .ok (.iadd, 1) := dk_96 (dk_at dksX2_bar_0 22 rfl rfl)
theorem dX2_bar_23 : decode cX2_bar 23 = .ok (.iload_n 2, 1) := dk_28 (dk_at dksX2_bar_0 23 rfl rfl)
theorem dX2_bar_24 : decode cX2_bar 24 = .ok (.invokevirtual 77, 3) := dk_182 0 77 (dk_at dksX2_bar_1 0 rfl rfl)
theorem dX2_bar_27 : decode cX2_bar 27 = .ok (.iconst 1, 1) := dk_4 (dk_at dksX2_bar_1 3 rfl rfl)
theorem dX2_bar_28 : decode cX2_bar 28 = .ok (.ireturn, 1) := dk_172 (dk_at dksX2_bar_1 4 rfl rfl)
abbrev cX2_isPlace : ByteArray := prog_20_method_7_code
def yX2_isPlace : MethodName := ⟨RX2, "isPlace", "(I)Z"⟩
def dkwX2_isPlace_0 : List UInt8 := [26, 3, 16, 29, 184, 0, 69, 172]
abbrev dktX2_isPlace_0 : List UInt8 := dkwX2_isPlace_0 ++ []
theorem dksX2_isPlace_0 : cX2_isPlace.data.toList.drop 0 = dktX2_isPlace_0 := by decide +kernel
theorem dX2_isPlace_0 : decode cX2_isPlace 0 = .ok (.iload_n 0, 1) := dk_26 (dk_at dksX2_isPlace_0 0 rfl rfl)
theorem dX2_isPlace_1 : decode cX2_isPlace 1 = .ok (.iconst 0, 1) := dk_3 (dk_at dksX2_isPlace_0 1 rfl rfl)
theorem dX2_isPlace_2 : decode cX2_isPlace 2 = .ok (.bipush 29, 2) := dk_16 29 (dk_at dksX2_isPlace_0 2 rfl rfl)
theorem dX2_isPlace_4 : decode cX2_isPlace 4 = .ok (.invokestatic 69, 3) := dk_184 0 69 (dk_at dksX2_isPlace_0 4 rfl rfl)
theorem dX2_isPlace_7 : decode cX2_isPlace 7 = .ok (.ireturn, 1) := dk_172 (dk_at dksX2_isPlace_0 7 rfl rfl)
abbrev cX2_isIn : ByteArray := prog_20_method_3_code
def yX2_isIn : MethodName := ⟨RX2, "isIn", "(III)Z"⟩
def dkwX2_isIn_0 : List UInt8 := [26, 27, 161, 0, 12, 26, 28, 163, 0, 7, 4, 167, 0, 4, 3, 172]
abbrev dktX2_isIn_0 : List UInt8 := dkwX2_isIn_0 ++ []
theorem dksX2_isIn_0 : cX2_isIn.data.toList.drop 0 = dktX2_isIn_0 := by decide +kernel
theorem dX2_isIn_0 : decode cX2_isIn 0 = .ok (.iload_n 0, 1) := dk_26 (dk_at dksX2_isIn_0 0 rfl rfl)
theorem dX2_isIn_1 : decode cX2_isIn 1 = .ok (.iload_n 1, 1) := dk_27 (dk_at dksX2_isIn_0 1 rfl rfl)
theorem dX2_isIn_2 : decode cX2_isIn 2 = .ok (.if_icmp .lt 12, 3) := dk_161 0 12 (dk_at dksX2_isIn_0 2 rfl rfl)
theorem dX2_isIn_5 : decode cX2_isIn 5 = .ok (.iload_n 0, 1) := dk_26 (dk_at dksX2_isIn_0 5 rfl rfl)
theorem dX2_isIn_6 : decode cX2_isIn 6 = .ok (.iload_n 2, 1) := dk_28 (dk_at dksX2_isIn_0 6 rfl rfl)
theorem dX2_isIn_7 : decode cX2_isIn 7 = .ok (.if_icmp .gt 7, 3) := dk_163 0 7 (dk_at dksX2_isIn_0 7 rfl rfl)
theorem dX2_isIn_10 : decode cX2_isIn 10 = .ok (.iconst 1, 1) := dk_4 (dk_at dksX2_isIn_0 10 rfl rfl)
theorem dX2_isIn_11 : decode cX2_isIn 11 = .ok (.goto 4, 3) := dk_167 0 4 (dk_at dksX2_isIn_0 11 rfl rfl)
theorem dX2_isIn_14 : decode cX2_isIn 14 = .ok (.iconst 0, 1) := dk_3 (dk_at dksX2_isIn_0 14 rfl rfl)
theorem dX2_isIn_15 : decode cX2_isIn 15 = .ok (.ireturn, 1) := dk_172 (dk_at dksX2_isIn_0 15 rfl rfl)
abbrev cX2_lay : ByteArray := prog_20_method_10_code
def yX2_lay : MethodName := ⟨RX2, "lay", "(II)V"⟩
def dkwX2_lay_1 : List UInt8 := [17, 0, 145, 16, 101, 29, 104, 96, 4, 96, 27, 96, 16, 6, 100, 28, 79, 132, 3, 1, 167, 255, 222, 177]
abbrev dktX2_lay_1 : List UInt8 := dkwX2_lay_1 ++ []
def dkwX2_lay_0 : List UInt8 := [42, 180, 0, 7, 27, 28, 79, 3, 62, 29, 42, 180, 0, 7, 6, 46, 162, 0, 30, 42, 180, 0, 7]
abbrev dktX2_lay_0 : List UInt8 := dkwX2_lay_0 ++ dktX2_lay_1
theorem dksX2_lay_0 : cX2_lay.data.toList.drop 0 = dktX2_lay_0 := by decide +kernel
theorem dksX2_lay_1 : cX2_lay.data.toList.drop 23 = dktX2_lay_1 := dk_seg dksX2_lay_0 23 rfl rfl
theorem dX2_lay_0 : decode cX2_lay 0 = .ok (.aload_n 0, 1) := dk_42 (dk_at dksX2_lay_0 0 rfl rfl)
theorem dX2_lay_1 : decode cX2_lay 1 = .ok (.getfield 7, 3) := dk_180 0 7 (dk_at dksX2_lay_0 1 rfl rfl)
theorem dX2_lay_4 : decode cX2_lay 4 = .ok (.iload_n 1, 1) := dk_27 (dk_at dksX2_lay_0 4 rfl rfl)
theorem dX2_lay_5 : decode cX2_lay 5 = .ok (.iload_n 2, 1) := dk_28 (dk_at dksX2_lay_0 5 rfl rfl)
theorem dX2_lay_6 : decode cX2_lay 6 = .ok (.iastore, 1) := dk_79 (dk_at dksX2_lay_0 6 rfl rfl)
theorem dX2_lay_7 : decode cX2_lay 7 = .ok (.iconst 0, 1) := dk_3 (dk_at dksX2_lay_0 7 rfl rfl)
theorem dX2_lay_8 : decode cX2_lay 8 = .ok (.istore_n 3, 1) := dk_62 (dk_at dksX2_lay_0 8 rfl rfl)
theorem dX2_lay_9 : decode cX2_lay 9 = .ok (.iload_n 3, 1) := dk_29 (dk_at dksX2_lay_0 9 rfl rfl)
theorem dX2_lay_10 : decode cX2_lay 10 = .ok (.aload_n 0, 1) := dk_42 (dk_at dksX2_lay_0 10 rfl rfl)
theorem dX2_lay_11 : decode cX2_lay 11 = .ok (.getfield 7, 3) := dk_180 0 7 (dk_at dksX2_lay_0 11 rfl rfl)
theorem dX2_lay_14 : decode cX2_lay 14 = .ok (.iconst 3, 1) := dk_6 (dk_at dksX2_lay_0 14 rfl rfl)
theorem dX2_lay_15 : decode cX2_lay 15 = .ok (.iaload, 1) := dk_46 (dk_at dksX2_lay_0 15 rfl rfl)
theorem dX2_lay_16 : decode cX2_lay 16 = .ok (.if_icmp .ge 30, 3) := dk_162 0 30 (dk_at dksX2_lay_0 16 rfl rfl)
theorem dX2_lay_19 : decode cX2_lay 19 = .ok (.aload_n 0, 1) := dk_42 (dk_at dksX2_lay_0 19 rfl rfl)
theorem dX2_lay_20 : decode cX2_lay 20 = .ok (.getfield 7, 3) := dk_180 0 7 (dk_at dksX2_lay_0 20 rfl rfl)
theorem dX2_lay_23 : decode cX2_lay 23 = .ok (.sipush 145, 3) := dk_17 0 145 (dk_at dksX2_lay_1 0 rfl rfl)
theorem dX2_lay_26 : decode cX2_lay 26 = .ok (.bipush 101, 2) := dk_16 101 (dk_at dksX2_lay_1 3 rfl rfl)
theorem dX2_lay_28 : decode cX2_lay 28 = .ok (.iload_n 3, 1) := dk_29 (dk_at dksX2_lay_1 5 rfl rfl)
theorem dX2_lay_29 : decode cX2_lay 29 = .ok (.imul, 1) := dk_104 (dk_at dksX2_lay_1 6 rfl rfl)
theorem dX2_lay_30 : decode cX2_lay 30 = .ok (.iadd, 1) := dk_96 (dk_at dksX2_lay_1 7 rfl rfl)
theorem dX2_lay_31 : decode cX2_lay 31 = .ok (.iconst 1, 1) := dk_4 (dk_at dksX2_lay_1 8 rfl rfl)
theorem dX2_lay_32 : decode cX2_lay 32 = .ok (.iadd, 1) := dk_96 (dk_at dksX2_lay_1 9 rfl rfl)
theorem dX2_lay_33 : decode cX2_lay 33 = .ok (.iload_n 1, 1) := dk_27 (dk_at dksX2_lay_1 10 rfl rfl)
theorem dX2_lay_34 : decode cX2_lay 34 = .ok (.iadd, 1) := dk_96 (dk_at dksX2_lay_1 11 rfl rfl)
theorem dX2_lay_35 : decode cX2_lay 35 = .ok (.bipush 6, 2) := dk_16 6 (dk_at dksX2_lay_1 12 rfl rfl)
theorem dX2_lay_37 : decode cX2_lay 37 = .ok (.isub, 1) := dk_100 (dk_at dksX2_lay_1 14 rfl rfl)
theorem dX2_lay_38 : decode cX2_lay 38 = .ok (.iload_n 2, 1) := dk_28 (dk_at dksX2_lay_1 15 rfl rfl)
theorem dX2_lay_39 : decode cX2_lay 39 = .ok (.iastore, 1) := dk_79 (dk_at dksX2_lay_1 16 rfl rfl)
theorem dX2_lay_40 : decode cX2_lay 40 = .ok (.iinc 3 1, 3) := dk_132 3 1 (dk_at dksX2_lay_1 17 rfl rfl)
theorem dX2_lay_43 : decode cX2_lay 43 = .ok (.goto (-34), 3) := dk_167 255 222 (dk_at dksX2_lay_1 20 rfl rfl)
theorem dX2_lay_46 : decode cX2_lay 46 = .ok (.return_, 1) := dk_177 (dk_at dksX2_lay_1 23 rfl rfl)
abbrev cX2_paint : ByteArray := prog_20_method_12_code
def yX2_paint : MethodName := ⟨RX2, "paint", "(II)Z"⟩
def dkwX2_paint_1 : List UInt8 := [28, 182, 0, 77, 4, 172]
abbrev dktX2_paint_1 : List UInt8 := dkwX2_paint_1 ++ []
def dkwX2_paint_0 : List UInt8 := [27, 184, 0, 73, 153, 0, 13, 28, 3, 16, 9, 184, 0, 69, 154, 0, 5, 3, 172, 42, 16, 39, 27, 96]
abbrev dktX2_paint_0 : List UInt8 := dkwX2_paint_0 ++ dktX2_paint_1
theorem dksX2_paint_0 : cX2_paint.data.toList.drop 0 = dktX2_paint_0 := by decide +kernel
theorem dksX2_paint_1 : cX2_paint.data.toList.drop 24 = dktX2_paint_1 := dk_seg dksX2_paint_0 24 rfl rfl
theorem dX2_paint_0 : decode cX2_paint 0 = .ok (.iload_n 1, 1) := dk_27 (dk_at dksX2_paint_0 0 rfl rfl)
theorem dX2_paint_1 : decode cX2_paint 1 = .ok (.invokestatic 73, 3) := dk_184 0 73 (dk_at dksX2_paint_0 1 rfl rfl)
theorem dX2_paint_4 : decode cX2_paint 4 = .ok (.ifCond .eq 13, 3) := dk_153 0 13 (dk_at dksX2_paint_0 4 rfl rfl)
theorem dX2_paint_7 : decode cX2_paint 7 = .ok (.iload_n 2, 1) := dk_28 (dk_at dksX2_paint_0 7 rfl rfl)
theorem dX2_paint_8 : decode cX2_paint 8 = .ok (.iconst 0, 1) := dk_3 (dk_at dksX2_paint_0 8 rfl rfl)
theorem dX2_paint_9 : decode cX2_paint 9 = .ok (.bipush 9, 2) := dk_16 9 (dk_at dksX2_paint_0 9 rfl rfl)
theorem dX2_paint_11 : decode cX2_paint 11 = .ok (.invokestatic 69, 3) := dk_184 0 69 (dk_at dksX2_paint_0 11 rfl rfl)
theorem dX2_paint_14 : decode cX2_paint 14 = .ok (.ifCond .ne 5, 3) := dk_154 0 5 (dk_at dksX2_paint_0 14 rfl rfl)
theorem dX2_paint_17 : decode cX2_paint 17 = .ok (.iconst 0, 1) := dk_3 (dk_at dksX2_paint_0 17 rfl rfl)
theorem dX2_paint_18 : decode cX2_paint 18 = .ok (.ireturn, 1) := dk_172 (dk_at dksX2_paint_0 18 rfl rfl)
theorem dX2_paint_19 : decode cX2_paint 19 = .ok (.aload_n 0, 1) := dk_42 (dk_at dksX2_paint_0 19 rfl rfl)
theorem dX2_paint_20 : decode cX2_paint 20 = .ok (.bipush 39, 2) := dk_16 39 (dk_at dksX2_paint_0 20 rfl rfl)
theorem dX2_paint_22 : decode cX2_paint 22 = .ok (.iload_n 1, 1) := dk_27 (dk_at dksX2_paint_0 22 rfl rfl)
theorem dX2_paint_23 : decode cX2_paint 23 = .ok (.iadd, 1) := dk_96 (dk_at dksX2_paint_0 23 rfl rfl)
theorem dX2_paint_24 : decode cX2_paint 24 = .ok (.iload_n 2, 1) := dk_28 (dk_at dksX2_paint_1 0 rfl rfl)
theorem dX2_paint_25 : decode cX2_paint 25 = .ok (.invokevirtual 77, 3) := dk_182 0 77 (dk_at dksX2_paint_1 1 rfl rfl)
theorem dX2_paint_28 : decode cX2_paint 28 = .ok (.iconst 1, 1) := dk_4 (dk_at dksX2_paint_1 4 rfl rfl)
theorem dX2_paint_29 : decode cX2_paint 29 = .ok (.ireturn, 1) := dk_172 (dk_at dksX2_paint_1 5 rfl rfl)
abbrev cX2_child : ByteArray := prog_20_method_13_code
def yX2_child : MethodName := ⟨RX2, "child", "(II)I"⟩
def dkwX2_child_3 : List UInt8 := [180, 0, 7, 3, 92, 46, 4, 96, 79, 29, 172]
abbrev dktX2_child_3 : List UInt8 := dkwX2_child_3 ++ []
def dkwX2_child_2 : List UInt8 := [27, 79, 42, 180, 0, 7, 16, 83, 29, 96, 28, 79, 42, 180, 0, 7, 16, 69, 29, 96, 2, 79, 42]
abbrev dktX2_child_2 : List UInt8 := dkwX2_child_2 ++ dktX2_child_3
def dkwX2_child_1 : List UInt8 := [3, 46, 16, 7, 160, 0, 5, 2, 172, 42, 180, 0, 7, 3, 46, 62, 42, 180, 0, 7, 16, 76, 29, 96]
abbrev dktX2_child_1 : List UInt8 := dkwX2_child_1 ++ dktX2_child_2
def dkwX2_child_0 : List UInt8 := [27, 4, 16, 9, 184, 0, 69, 153, 0, 24, 28, 3, 16, 9, 184, 0, 69, 153, 0, 14, 42, 180, 0, 7]
abbrev dktX2_child_0 : List UInt8 := dkwX2_child_0 ++ dktX2_child_1
theorem dksX2_child_0 : cX2_child.data.toList.drop 0 = dktX2_child_0 := by decide +kernel
theorem dksX2_child_1 : cX2_child.data.toList.drop 24 = dktX2_child_1 := dk_seg dksX2_child_0 24 rfl rfl
theorem dksX2_child_2 : cX2_child.data.toList.drop 48 = dktX2_child_2 := dk_seg dksX2_child_1 24 rfl rfl
theorem dksX2_child_3 : cX2_child.data.toList.drop 71 = dktX2_child_3 := dk_seg dksX2_child_2 23 rfl rfl
theorem dX2_child_0 : decode cX2_child 0 = .ok (.iload_n 1, 1) := dk_27 (dk_at dksX2_child_0 0 rfl rfl)
theorem dX2_child_1 : decode cX2_child 1 = .ok (.iconst 1, 1) := dk_4 (dk_at dksX2_child_0 1 rfl rfl)
theorem dX2_child_2 : decode cX2_child 2 = .ok (.bipush 9, 2) := dk_16 9 (dk_at dksX2_child_0 2 rfl rfl)
theorem dX2_child_4 : decode cX2_child 4 = .ok (.invokestatic 69, 3) := dk_184 0 69 (dk_at dksX2_child_0 4 rfl rfl)
theorem dX2_child_7 : decode cX2_child 7 = .ok (.ifCond .eq 24, 3) := dk_153 0 24 (dk_at dksX2_child_0 7 rfl rfl)
theorem dX2_child_10 : decode cX2_child 10 = .ok (.iload_n 2, 1) := dk_28 (dk_at dksX2_child_0 10 rfl rfl)
theorem dX2_child_11 : decode cX2_child 11 = .ok (.iconst 0, 1) := dk_3 (dk_at dksX2_child_0 11 rfl rfl)
theorem dX2_child_12 : decode cX2_child 12 = .ok (.bipush 9, 2) := dk_16 9 (dk_at dksX2_child_0 12 rfl rfl)
theorem dX2_child_14 : decode cX2_child 14 = .ok (.invokestatic 69, 3) := dk_184 0 69 (dk_at dksX2_child_0 14 rfl rfl)
theorem dX2_child_17 : decode cX2_child 17 = .ok (.ifCond .eq 14, 3) := dk_153 0 14 (dk_at dksX2_child_0 17 rfl rfl)
theorem dX2_child_20 : decode cX2_child 20 = .ok (.aload_n 0, 1) := dk_42 (dk_at dksX2_child_0 20 rfl rfl)
theorem dX2_child_21 : decode cX2_child 21 = .ok (.getfield 7, 3) := dk_180 0 7 (dk_at dksX2_child_0 21 rfl rfl)
theorem dX2_child_24 : decode cX2_child 24 = .ok (.iconst 0, 1) := dk_3 (dk_at dksX2_child_1 0 rfl rfl)
theorem dX2_child_25 : decode cX2_child 25 = .ok (.iaload, 1) := dk_46 (dk_at dksX2_child_1 1 rfl rfl)
theorem dX2_child_26 : decode cX2_child 26 = .ok (.bipush 7, 2) := dk_16 7 (dk_at dksX2_child_1 2 rfl rfl)
theorem dX2_child_28 : decode cX2_child 28 = .ok (.if_icmp .ne 5, 3) := dk_160 0 5 (dk_at dksX2_child_1 4 rfl rfl)
theorem dX2_child_31 : decode cX2_child 31 = .ok (.iconst (-1), 1) := dk_2 (dk_at dksX2_child_1 7 rfl rfl)
theorem dX2_child_32 : decode cX2_child 32 = .ok (.ireturn, 1) := dk_172 (dk_at dksX2_child_1 8 rfl rfl)
theorem dX2_child_33 : decode cX2_child 33 = .ok (.aload_n 0, 1) := dk_42 (dk_at dksX2_child_1 9 rfl rfl)
theorem dX2_child_34 : decode cX2_child 34 = .ok (.getfield 7, 3) := dk_180 0 7 (dk_at dksX2_child_1 10 rfl rfl)
theorem dX2_child_37 : decode cX2_child 37 = .ok (.iconst 0, 1) := dk_3 (dk_at dksX2_child_1 13 rfl rfl)
theorem dX2_child_38 : decode cX2_child 38 = .ok (.iaload, 1) := dk_46 (dk_at dksX2_child_1 14 rfl rfl)
theorem dX2_child_39 : decode cX2_child 39 = .ok (.istore_n 3, 1) := dk_62 (dk_at dksX2_child_1 15 rfl rfl)
theorem dX2_child_40 : decode cX2_child 40 = .ok (.aload_n 0, 1) := dk_42 (dk_at dksX2_child_1 16 rfl rfl)
theorem dX2_child_41 : decode cX2_child 41 = .ok (.getfield 7, 3) := dk_180 0 7 (dk_at dksX2_child_1 17 rfl rfl)
theorem dX2_child_44 : decode cX2_child 44 = .ok (.bipush 76, 2) := dk_16 76 (dk_at dksX2_child_1 20 rfl rfl)
theorem dX2_child_46 : decode cX2_child 46 = .ok (.iload_n 3, 1) := dk_29 (dk_at dksX2_child_1 22 rfl rfl)
theorem dX2_child_47 : decode cX2_child 47 = .ok (.iadd, 1) := dk_96 (dk_at dksX2_child_1 23 rfl rfl)
theorem dX2_child_48 : decode cX2_child 48 = .ok (.iload_n 1, 1) := dk_27 (dk_at dksX2_child_2 0 rfl rfl)
theorem dX2_child_49 : decode cX2_child 49 = .ok (.iastore, 1) := dk_79 (dk_at dksX2_child_2 1 rfl rfl)
theorem dX2_child_50 : decode cX2_child 50 = .ok (.aload_n 0, 1) := dk_42 (dk_at dksX2_child_2 2 rfl rfl)
theorem dX2_child_51 : decode cX2_child 51 = .ok (.getfield 7, 3) := dk_180 0 7 (dk_at dksX2_child_2 3 rfl rfl)
theorem dX2_child_54 : decode cX2_child 54 = .ok (.bipush 83, 2) := dk_16 83 (dk_at dksX2_child_2 6 rfl rfl)
theorem dX2_child_56 : decode cX2_child 56 = .ok (.iload_n 3, 1) := dk_29 (dk_at dksX2_child_2 8 rfl rfl)
theorem dX2_child_57 : decode cX2_child 57 = .ok (.iadd, 1) := dk_96 (dk_at dksX2_child_2 9 rfl rfl)
theorem dX2_child_58 : decode cX2_child 58 = .ok (.iload_n 2, 1) := dk_28 (dk_at dksX2_child_2 10 rfl rfl)
theorem dX2_child_59 : decode cX2_child 59 = .ok (.iastore, 1) := dk_79 (dk_at dksX2_child_2 11 rfl rfl)
theorem dX2_child_60 : decode cX2_child 60 = .ok (.aload_n 0, 1) := dk_42 (dk_at dksX2_child_2 12 rfl rfl)
theorem dX2_child_61 : decode cX2_child 61 = .ok (.getfield 7, 3) := dk_180 0 7 (dk_at dksX2_child_2 13 rfl rfl)
theorem dX2_child_64 : decode cX2_child 64 = .ok (.bipush 69, 2) := dk_16 69 (dk_at dksX2_child_2 16 rfl rfl)
theorem dX2_child_66 : decode cX2_child 66 = .ok (.iload_n 3, 1) := dk_29 (dk_at dksX2_child_2 18 rfl rfl)
theorem dX2_child_67 : decode cX2_child 67 = .ok (.iadd, 1) := dk_96 (dk_at dksX2_child_2 19 rfl rfl)
theorem dX2_child_68 : decode cX2_child 68 = .ok (.iconst (-1), 1) := dk_2 (dk_at dksX2_child_2 20 rfl rfl)
theorem dX2_child_69 : decode cX2_child 69 = .ok (.iastore, 1) := dk_79 (dk_at dksX2_child_2 21 rfl rfl)
theorem dX2_child_70 : decode cX2_child 70 = .ok (.aload_n 0, 1) := dk_42 (dk_at dksX2_child_2 22 rfl rfl)
theorem dX2_child_71 : decode cX2_child 71 = .ok (.getfield 7, 3) := dk_180 0 7 (dk_at dksX2_child_3 0 rfl rfl)
theorem dX2_child_74 : decode cX2_child 74 = .ok (.iconst 0, 1) := dk_3 (dk_at dksX2_child_3 3 rfl rfl)
theorem dX2_child_75 : decode cX2_child 75 = .ok (.dup2, 1) := dk_92 (dk_at dksX2_child_3 4 rfl rfl)
theorem dX2_child_76 : decode cX2_child 76 = .ok (.iaload, 1) := dk_46 (dk_at dksX2_child_3 5 rfl rfl)
theorem dX2_child_77 : decode cX2_child 77 = .ok (.iconst 1, 1) := dk_4 (dk_at dksX2_child_3 6 rfl rfl)
theorem dX2_child_78 : decode cX2_child 78 = .ok (.iadd, 1) := dk_96 (dk_at dksX2_child_3 7 rfl rfl)
theorem dX2_child_79 : decode cX2_child 79 = .ok (.iastore, 1) := dk_79 (dk_at dksX2_child_3 8 rfl rfl)
theorem dX2_child_80 : decode cX2_child 80 = .ok (.iload_n 3, 1) := dk_29 (dk_at dksX2_child_3 9 rfl rfl)
theorem dX2_child_81 : decode cX2_child 81 = .ok (.ireturn, 1) := dk_172 (dk_at dksX2_child_3 10 rfl rfl)
abbrev cX2_feed : ByteArray := prog_20_method_15_code
def yX2_feed : MethodName := ⟨RX2, "feed", "(IIIII)I"⟩
def dkwX2_feed_2 : List UInt8 := [172]
abbrev dktX2_feed_2 : List UInt8 := dkwX2_feed_2 ++ []
def dkwX2_feed_1 : List UInt8 := [182, 0, 84, 42, 29, 182, 0, 84, 42, 21, 4, 182, 0, 84, 42, 21, 5, 182, 0, 84, 42, 180, 0, 81]
abbrev dktX2_feed_1 : List UInt8 := dkwX2_feed_1 ++ dktX2_feed_2
def dkwX2_feed_0 : List UInt8 := [42, 180, 0, 81, 16, 20, 96, 17, 1, 44, 164, 0, 5, 2, 172, 42, 27, 182, 0, 84, 42, 28]
abbrev dktX2_feed_0 : List UInt8 := dkwX2_feed_0 ++ dktX2_feed_1
theorem dksX2_feed_0 : cX2_feed.data.toList.drop 0 = dktX2_feed_0 := by decide +kernel
theorem dksX2_feed_1 : cX2_feed.data.toList.drop 22 = dktX2_feed_1 := dk_seg dksX2_feed_0 22 rfl rfl
theorem dksX2_feed_2 : cX2_feed.data.toList.drop 46 = dktX2_feed_2 := dk_seg dksX2_feed_1 24 rfl rfl
theorem dX2_feed_0 : decode cX2_feed 0 = .ok (.aload_n 0, 1) := dk_42 (dk_at dksX2_feed_0 0 rfl rfl)
theorem dX2_feed_1 : decode cX2_feed 1 = .ok (.getfield 81, 3) := dk_180 0 81 (dk_at dksX2_feed_0 1 rfl rfl)
theorem dX2_feed_4 : decode cX2_feed 4 = .ok (.bipush 20, 2) := dk_16 20 (dk_at dksX2_feed_0 4 rfl rfl)
theorem dX2_feed_6 : decode cX2_feed 6 = .ok (.iadd, 1) := dk_96 (dk_at dksX2_feed_0 6 rfl rfl)
theorem dX2_feed_7 : decode cX2_feed 7 = .ok (.sipush 300, 3) := dk_17 1 44 (dk_at dksX2_feed_0 7 rfl rfl)
theorem dX2_feed_10 : decode cX2_feed 10 = .ok (.if_icmp .le 5, 3) := dk_164 0 5 (dk_at dksX2_feed_0 10 rfl rfl)
theorem dX2_feed_13 : decode cX2_feed 13 = .ok (.iconst (-1), 1) := dk_2 (dk_at dksX2_feed_0 13 rfl rfl)
theorem dX2_feed_14 : decode cX2_feed 14 = .ok (.ireturn, 1) := dk_172 (dk_at dksX2_feed_0 14 rfl rfl)
theorem dX2_feed_15 : decode cX2_feed 15 = .ok (.aload_n 0, 1) := dk_42 (dk_at dksX2_feed_0 15 rfl rfl)
theorem dX2_feed_16 : decode cX2_feed 16 = .ok (.iload_n 1, 1) := dk_27 (dk_at dksX2_feed_0 16 rfl rfl)
theorem dX2_feed_17 : decode cX2_feed 17 = .ok (.invokevirtual 84, 3) := dk_182 0 84 (dk_at dksX2_feed_0 17 rfl rfl)
theorem dX2_feed_20 : decode cX2_feed 20 = .ok (.aload_n 0, 1) := dk_42 (dk_at dksX2_feed_0 20 rfl rfl)
theorem dX2_feed_21 : decode cX2_feed 21 = .ok (.iload_n 2, 1) := dk_28 (dk_at dksX2_feed_0 21 rfl rfl)
theorem dX2_feed_22 : decode cX2_feed 22 = .ok (.invokevirtual 84, 3) := dk_182 0 84 (dk_at dksX2_feed_1 0 rfl rfl)
theorem dX2_feed_25 : decode cX2_feed 25 = .ok (.aload_n 0, 1) := dk_42 (dk_at dksX2_feed_1 3 rfl rfl)
theorem dX2_feed_26 : decode cX2_feed 26 = .ok (.iload_n 3, 1) := dk_29 (dk_at dksX2_feed_1 4 rfl rfl)
theorem dX2_feed_27 : decode cX2_feed 27 = .ok (.invokevirtual 84, 3) := dk_182 0 84 (dk_at dksX2_feed_1 5 rfl rfl)
theorem dX2_feed_30 : decode cX2_feed 30 = .ok (.aload_n 0, 1) := dk_42 (dk_at dksX2_feed_1 8 rfl rfl)
theorem dX2_feed_31 : decode cX2_feed 31 = .ok (.iload 4, 2) := dk_21 4 (dk_at dksX2_feed_1 9 rfl rfl)
theorem dX2_feed_33 : decode cX2_feed 33 = .ok (.invokevirtual 84, 3) := dk_182 0 84 (dk_at dksX2_feed_1 11 rfl rfl)
theorem dX2_feed_36 : decode cX2_feed 36 = .ok (.aload_n 0, 1) := dk_42 (dk_at dksX2_feed_1 14 rfl rfl)
theorem dX2_feed_37 : decode cX2_feed 37 = .ok (.iload 5, 2) := dk_21 5 (dk_at dksX2_feed_1 15 rfl rfl)
theorem dX2_feed_39 : decode cX2_feed 39 = .ok (.invokevirtual 84, 3) := dk_182 0 84 (dk_at dksX2_feed_1 17 rfl rfl)
theorem dX2_feed_42 : decode cX2_feed 42 = .ok (.aload_n 0, 1) := dk_42 (dk_at dksX2_feed_1 20 rfl rfl)
theorem dX2_feed_43 : decode cX2_feed 43 = .ok (.getfield 81, 3) := dk_180 0 81 (dk_at dksX2_feed_1 21 rfl rfl)
theorem dX2_feed_46 : decode cX2_feed 46 = .ok (.ireturn, 1) := dk_172 (dk_at dksX2_feed_2 0 rfl rfl)
abbrev cX2_four : ByteArray := prog_20_method_14_code
def yX2_four : MethodName := ⟨RX2, "four", "(I)V"⟩
def dkwX2_four_1 : List UInt8 := [89, 180, 0, 81, 4, 96, 181, 0, 81, 132, 2, 248, 167, 255, 223, 177]
abbrev dktX2_four_1 : List UInt8 := dkwX2_four_1 ++ []
def dkwX2_four_0 : List UInt8 := [16, 24, 61, 28, 155, 0, 35, 42, 180, 0, 19, 42, 180, 0, 81, 27, 28, 122, 17, 0, 255, 126, 79, 42]
abbrev dktX2_four_0 : List UInt8 := dkwX2_four_0 ++ dktX2_four_1
theorem dksX2_four_0 : cX2_four.data.toList.drop 0 = dktX2_four_0 := by decide +kernel
theorem dksX2_four_1 : cX2_four.data.toList.drop 24 = dktX2_four_1 := dk_seg dksX2_four_0 24 rfl rfl
theorem dX2_four_0 : decode cX2_four 0 = .ok (.bipush 24, 2) := dk_16 24 (dk_at dksX2_four_0 0 rfl rfl)
theorem dX2_four_2 : decode cX2_four 2 = .ok (.istore_n 2, 1) := dk_61 (dk_at dksX2_four_0 2 rfl rfl)
theorem dX2_four_3 : decode cX2_four 3 = .ok (.iload_n 2, 1) := dk_28 (dk_at dksX2_four_0 3 rfl rfl)
theorem dX2_four_4 : decode cX2_four 4 = .ok (.ifCond .lt 35, 3) := dk_155 0 35 (dk_at dksX2_four_0 4 rfl rfl)
theorem dX2_four_7 : decode cX2_four 7 = .ok (.aload_n 0, 1) := dk_42 (dk_at dksX2_four_0 7 rfl rfl)
theorem dX2_four_8 : decode cX2_four 8 = .ok (.getfield 19, 3) := dk_180 0 19 (dk_at dksX2_four_0 8 rfl rfl)
theorem dX2_four_11 : decode cX2_four 11 = .ok (.aload_n 0, 1) := dk_42 (dk_at dksX2_four_0 11 rfl rfl)
theorem dX2_four_12 : decode cX2_four 12 = .ok (.getfield 81, 3) := dk_180 0 81 (dk_at dksX2_four_0 12 rfl rfl)
theorem dX2_four_15 : decode cX2_four 15 = .ok (.iload_n 1, 1) := dk_27 (dk_at dksX2_four_0 15 rfl rfl)
theorem dX2_four_16 : decode cX2_four 16 = .ok (.iload_n 2, 1) := dk_28 (dk_at dksX2_four_0 16 rfl rfl)
theorem dX2_four_17 : decode cX2_four 17 = .ok (.ishr, 1) := dk_122 (dk_at dksX2_four_0 17 rfl rfl)
theorem dX2_four_18 : decode cX2_four 18 = .ok (.sipush 255, 3) := dk_17 0 255 (dk_at dksX2_four_0 18 rfl rfl)
theorem dX2_four_21 : decode cX2_four 21 = .ok (.iand, 1) := dk_126 (dk_at dksX2_four_0 21 rfl rfl)
theorem dX2_four_22 : decode cX2_four 22 = .ok (.iastore, 1) := dk_79 (dk_at dksX2_four_0 22 rfl rfl)
theorem dX2_four_23 : decode cX2_four 23 = .ok (.aload_n 0, 1) := dk_42 (dk_at dksX2_four_0 23 rfl rfl)
theorem dX2_four_24 : decode cX2_four 24 = .ok (.dup, 1) := dk_89 (dk_at dksX2_four_1 0 rfl rfl)
theorem dX2_four_25 : decode cX2_four 25 = .ok (.getfield 81, 3) := dk_180 0 81 (dk_at dksX2_four_1 1 rfl rfl)
theorem dX2_four_28 : decode cX2_four 28 = .ok (.iconst 1, 1) := dk_4 (dk_at dksX2_four_1 4 rfl rfl)
theorem dX2_four_29 : decode cX2_four 29 = .ok (.iadd, 1) := dk_96 (dk_at dksX2_four_1 5 rfl rfl)
theorem dX2_four_30 : decode cX2_four 30 = .ok (.putfield 81, 3) := dk_181 0 81 (dk_at dksX2_four_1 6 rfl rfl)
theorem dX2_four_33 : decode cX2_four 33 = .ok (.iinc 2 (-8), 3) := dk_132 2 248 (dk_at dksX2_four_1 9 rfl rfl)
theorem dX2_four_36 : decode cX2_four 36 = .ok (.goto (-33), 3) := dk_167 255 223 (dk_at dksX2_four_1 12 rfl rfl)
theorem dX2_four_39 : decode cX2_four 39 = .ok (.return_, 1) := dk_177 (dk_at dksX2_four_1 15 rfl rfl)
abbrev cX2_end : ByteArray := prog_20_method_16_code
def yX2_end : MethodName := ⟨RX2, "end", "(I)I"⟩
def dkwX2_end_0 : List UInt8 := [27, 3, 42, 180, 0, 81, 184, 0, 69, 154, 0, 5, 2, 172, 42, 27, 181, 0, 81, 27, 172]
abbrev dktX2_end_0 : List UInt8 := dkwX2_end_0 ++ []
theorem dksX2_end_0 : cX2_end.data.toList.drop 0 = dktX2_end_0 := by decide +kernel
theorem dX2_end_0 : decode cX2_end 0 = .ok (.iload_n 1, 1) := dk_27 (dk_at dksX2_end_0 0 rfl rfl)
theorem dX2_end_1 : decode cX2_end 1 = .ok (.iconst 0, 1) := dk_3 (dk_at dksX2_end_0 1 rfl rfl)
theorem dX2_end_2 : decode cX2_end 2 = .ok (.aload_n 0, 1) := dk_42 (dk_at dksX2_end_0 2 rfl rfl)
theorem dX2_end_3 : decode cX2_end 3 = .ok (.getfield 81, 3) := dk_180 0 81 (dk_at dksX2_end_0 3 rfl rfl)
theorem dX2_end_6 : decode cX2_end 6 = .ok (.invokestatic 69, 3) := dk_184 0 69 (dk_at dksX2_end_0 6 rfl rfl)
theorem dX2_end_9 : decode cX2_end 9 = .ok (.ifCond .ne 5, 3) := dk_154 0 5 (dk_at dksX2_end_0 9 rfl rfl)
theorem dX2_end_12 : decode cX2_end 12 = .ok (.iconst (-1), 1) := dk_2 (dk_at dksX2_end_0 12 rfl rfl)
theorem dX2_end_13 : decode cX2_end 13 = .ok (.ireturn, 1) := dk_172 (dk_at dksX2_end_0 13 rfl rfl)
theorem dX2_end_14 : decode cX2_end 14 = .ok (.aload_n 0, 1) := dk_42 (dk_at dksX2_end_0 14 rfl rfl)
theorem dX2_end_15 : decode cX2_end 15 = .ok (.iload_n 1, 1) := dk_27 (dk_at dksX2_end_0 15 rfl rfl)
theorem dX2_end_16 : decode cX2_end 16 = .ok (.putfield 81, 3) := dk_181 0 81 (dk_at dksX2_end_0 16 rfl rfl)
theorem dX2_end_19 : decode cX2_end 19 = .ok (.iload_n 1, 1) := dk_27 (dk_at dksX2_end_0 19 rfl rfl)
theorem dX2_end_20 : decode cX2_end 20 = .ok (.ireturn, 1) := dk_172 (dk_at dksX2_end_0 20 rfl rfl)
abbrev cX2_text : ByteArray := prog_20_method_52_code
def yX2_text : MethodName := ⟨RX2, "text", "()I"⟩
def dkwX2_text_3 : List UInt8 := [4, 100, 172]
abbrev dktX2_text_3 : List UInt8 := dkwX2_text_3 ++ []
def dkwX2_text_2 : List UInt8 := [180, 0, 22, 153, 0, 5, 2, 172, 42, 180, 0, 7, 4, 92, 46, 4, 96, 79, 42, 180, 0, 7, 4, 46]
abbrev dktX2_text_2 : List UInt8 := dkwX2_text_2 ++ dktX2_text_3
def dkwX2_text_1 : List UInt8 := [180, 0, 22, 154, 0, 7, 2, 167, 0, 7, 42, 180, 0, 95, 181, 0, 26, 42, 3, 181, 0, 81, 42]
abbrev dktX2_text_1 : List UInt8 := dkwX2_text_1 ++ dktX2_text_2
def dkwX2_text_0 : List UInt8 := [42, 180, 0, 7, 4, 46, 7, 160, 0, 5, 2, 172, 42, 42, 182, 0, 246, 181, 0, 22, 42, 42]
abbrev dktX2_text_0 : List UInt8 := dkwX2_text_0 ++ dktX2_text_1
theorem dksX2_text_0 : cX2_text.data.toList.drop 0 = dktX2_text_0 := by decide +kernel
theorem dksX2_text_1 : cX2_text.data.toList.drop 22 = dktX2_text_1 := dk_seg dksX2_text_0 22 rfl rfl
theorem dksX2_text_2 : cX2_text.data.toList.drop 45 = dktX2_text_2 := dk_seg dksX2_text_1 23 rfl rfl
theorem dksX2_text_3 : cX2_text.data.toList.drop 69 = dktX2_text_3 := dk_seg dksX2_text_2 24 rfl rfl
theorem dX2_text_0 : decode cX2_text 0 = .ok (.aload_n 0, 1) := dk_42 (dk_at dksX2_text_0 0 rfl rfl)
theorem dX2_text_1 : decode cX2_text 1 = .ok (.getfield 7, 3) := dk_180 0 7 (dk_at dksX2_text_0 1 rfl rfl)
theorem dX2_text_4 : decode cX2_text 4 = .ok (.iconst 1, 1) := dk_4 (dk_at dksX2_text_0 4 rfl rfl)
theorem dX2_text_5 : decode cX2_text 5 = .ok (.iaload, 1) := dk_46 (dk_at dksX2_text_0 5 rfl rfl)
theorem dX2_text_6 : decode cX2_text 6 = .ok (.iconst 4, 1) := dk_7 (dk_at dksX2_text_0 6 rfl rfl)
theorem dX2_text_7 : decode cX2_text 7 = .ok (.if_icmp .ne 5, 3) := dk_160 0 5 (dk_at dksX2_text_0 7 rfl rfl)
theorem dX2_text_10 : decode cX2_text 10 = .ok (.iconst (-1), 1) := dk_2 (dk_at dksX2_text_0 10 rfl rfl)
theorem dX2_text_11 : decode cX2_text 11 = .ok (.ireturn, 1) := dk_172 (dk_at dksX2_text_0 11 rfl rfl)
theorem dX2_text_12 : decode cX2_text 12 = .ok (.aload_n 0, 1) := dk_42 (dk_at dksX2_text_0 12 rfl rfl)
theorem dX2_text_13 : decode cX2_text 13 = .ok (.aload_n 0, 1) := dk_42 (dk_at dksX2_text_0 13 rfl rfl)
theorem dX2_text_14 : decode cX2_text 14 = .ok (.invokevirtual 246, 3) := dk_182 0 246 (dk_at dksX2_text_0 14 rfl rfl)
theorem dX2_text_17 : decode cX2_text 17 = .ok (.putfield 22, 3) := dk_181 0 22 (dk_at dksX2_text_0 17 rfl rfl)
theorem dX2_text_20 : decode cX2_text 20 = .ok (.aload_n 0, 1) := dk_42 (dk_at dksX2_text_0 20 rfl rfl)
theorem dX2_text_21 : decode cX2_text 21 = .ok (.aload_n 0, 1) := dk_42 (dk_at dksX2_text_0 21 rfl rfl)
theorem dX2_text_22 : decode cX2_text 22 = .ok (.getfield 22, 3) := dk_180 0 22 (dk_at dksX2_text_1 0 rfl rfl)
theorem dX2_text_25 : decode cX2_text 25 = .ok (.ifCond .ne 7, 3) := dk_154 0 7 (dk_at dksX2_text_1 3 rfl rfl)
theorem dX2_text_28 : decode cX2_text 28 = .ok (.iconst (-1), 1) := dk_2 (dk_at dksX2_text_1 6 rfl rfl)
theorem dX2_text_29 : decode cX2_text 29 = .ok (.goto 7, 3) := dk_167 0 7 (dk_at dksX2_text_1 7 rfl rfl)
theorem dX2_text_32 : decode cX2_text 32 = .ok (.aload_n 0, 1) := dk_42 (dk_at dksX2_text_1 10 rfl rfl)
theorem dX2_text_33 : decode cX2_text 33 = .ok (.getfield 95, 3) := dk_180 0 95 (dk_at dksX2_text_1 11 rfl rfl)
theorem dX2_text_36 : decode cX2_text 36 = .ok (.putfield 26, 3) := dk_181 0 26 (dk_at dksX2_text_1 14 rfl rfl)
theorem dX2_text_39 : decode cX2_text 39 = .ok (.aload_n 0, 1) := dk_42 (dk_at dksX2_text_1 17 rfl rfl)
theorem dX2_text_40 : decode cX2_text 40 = .ok (.iconst 0, 1) := dk_3 (dk_at dksX2_text_1 18 rfl rfl)
theorem dX2_text_41 : decode cX2_text 41 = .ok (.putfield 81, 3) := dk_181 0 81 (dk_at dksX2_text_1 19 rfl rfl)
theorem dX2_text_44 : decode cX2_text 44 = .ok (.aload_n 0, 1) := dk_42 (dk_at dksX2_text_1 22 rfl rfl)
theorem dX2_text_45 : decode cX2_text 45 = .ok (.getfield 22, 3) := dk_180 0 22 (dk_at dksX2_text_2 0 rfl rfl)
theorem dX2_text_48 : decode cX2_text 48 = .ok (.ifCond .eq 5, 3) := dk_153 0 5 (dk_at dksX2_text_2 3 rfl rfl)
theorem dX2_text_51 : decode cX2_text 51 = .ok (.iconst (-1), 1) := dk_2 (dk_at dksX2_text_2 6 rfl rfl)
theorem dX2_text_52 : decode cX2_text 52 = .ok (.ireturn, 1) := dk_172 (dk_at dksX2_text_2 7 rfl rfl)
theorem dX2_text_53 : decode cX2_text 53 = .ok (.aload_n 0, 1) := dk_42 (dk_at dksX2_text_2 8 rfl rfl)
theorem dX2_text_54 : decode cX2_text 54 = .ok (.getfield 7, 3) := dk_180 0 7 (dk_at dksX2_text_2 9 rfl rfl)
theorem dX2_text_57 : decode cX2_text 57 = .ok (.iconst 1, 1) := dk_4 (dk_at dksX2_text_2 12 rfl rfl)
theorem dX2_text_58 : decode cX2_text 58 = .ok (.dup2, 1) := dk_92 (dk_at dksX2_text_2 13 rfl rfl)
theorem dX2_text_59 : decode cX2_text 59 = .ok (.iaload, 1) := dk_46 (dk_at dksX2_text_2 14 rfl rfl)
theorem dX2_text_60 : decode cX2_text 60 = .ok (.iconst 1, 1) := dk_4 (dk_at dksX2_text_2 15 rfl rfl)
theorem dX2_text_61 : decode cX2_text 61 = .ok (.iadd, 1) := dk_96 (dk_at dksX2_text_2 16 rfl rfl)
theorem dX2_text_62 : decode cX2_text 62 = .ok (.iastore, 1) := dk_79 (dk_at dksX2_text_2 17 rfl rfl)
theorem dX2_text_63 : decode cX2_text 63 = .ok (.aload_n 0, 1) := dk_42 (dk_at dksX2_text_2 18 rfl rfl)
theorem dX2_text_64 : decode cX2_text 64 = .ok (.getfield 7, 3) := dk_180 0 7 (dk_at dksX2_text_2 19 rfl rfl)
theorem dX2_text_67 : decode cX2_text 67 = .ok (.iconst 1, 1) := dk_4 (dk_at dksX2_text_2 22 rfl rfl)
theorem dX2_text_68 : decode cX2_text 68 = .ok (.iaload, 1) := dk_46 (dk_at dksX2_text_2 23 rfl rfl)
theorem dX2_text_69 : decode cX2_text 69 = .ok (.iconst 1, 1) := dk_4 (dk_at dksX2_text_3 0 rfl rfl)
theorem dX2_text_70 : decode cX2_text 70 = .ok (.isub, 1) := dk_100 (dk_at dksX2_text_3 1 rfl rfl)
theorem dX2_text_71 : decode cX2_text 71 = .ok (.ireturn, 1) := dk_172 (dk_at dksX2_text_3 2 rfl rfl)
abbrev cX2_readText : ByteArray := prog_20_method_51_code
def yX2_readText : MethodName := ⟨RX2, "readText", "()I"⟩
def dkwX2_readText_2 : List UInt8 := [153, 0, 17, 42, 182, 0, 243, 60, 27, 153, 0, 5, 27, 172, 167, 255, 238, 3, 172]
abbrev dktX2_readText_2 : List UInt8 := dkwX2_readText_2 ++ []
def dkwX2_readText_1 : List UInt8 := [42, 3, 181, 0, 139, 42, 3, 181, 0, 232, 42, 3, 181, 0, 88, 42, 182, 0, 165, 42, 180, 0, 98]
abbrev dktX2_readText_1 : List UInt8 := dkwX2_readText_1 ++ dktX2_readText_2
def dkwX2_readText_0 : List UInt8 := [42, 17, 2, 169, 42, 180, 0, 7, 4, 46, 104, 181, 0, 136, 42, 180, 0, 16, 42, 180, 0, 136, 3, 79]
abbrev dktX2_readText_0 : List UInt8 := dkwX2_readText_0 ++ dktX2_readText_1
theorem dksX2_readText_0 : cX2_readText.data.toList.drop 0 = dktX2_readText_0 := by decide +kernel
theorem dksX2_readText_1 : cX2_readText.data.toList.drop 24 = dktX2_readText_1 := dk_seg dksX2_readText_0 24 rfl rfl
theorem dksX2_readText_2 : cX2_readText.data.toList.drop 47 = dktX2_readText_2 := dk_seg dksX2_readText_1 23 rfl rfl
theorem dX2_readText_0 : decode cX2_readText 0 = .ok (.aload_n 0, 1) := dk_42 (dk_at dksX2_readText_0 0 rfl rfl)
theorem dX2_readText_1 : decode cX2_readText 1 = .ok (.sipush 681, 3) := dk_17 2 169 (dk_at dksX2_readText_0 1 rfl rfl)
theorem dX2_readText_4 : decode cX2_readText 4 = .ok (.aload_n 0, 1) := dk_42 (dk_at dksX2_readText_0 4 rfl rfl)
theorem dX2_readText_5 : decode cX2_readText 5 = .ok (.getfield 7, 3) := dk_180 0 7 (dk_at dksX2_readText_0 5 rfl rfl)
theorem dX2_readText_8 : decode cX2_readText 8 = .ok (.iconst 1, 1) := dk_4 (dk_at dksX2_readText_0 8 rfl rfl)
theorem dX2_readText_9 : decode cX2_readText 9 = .ok (.iaload, 1) := dk_46 (dk_at dksX2_readText_0 9 rfl rfl)
theorem dX2_readText_10 : decode cX2_readText 10 = .ok (.imul, 1) := dk_104 (dk_at dksX2_readText_0 10 rfl rfl)
theorem dX2_readText_11 : decode cX2_readText 11 = .ok (.putfield 136, 3) := dk_181 0 136 (dk_at dksX2_readText_0 11 rfl rfl)
theorem dX2_readText_14 : decode cX2_readText 14 = .ok (.aload_n 0, 1) := dk_42 (dk_at dksX2_readText_0 14 rfl rfl)
theorem dX2_readText_15 : decode cX2_readText 15 = .ok (.getfield 16, 3) := dk_180 0 16 (dk_at dksX2_readText_0 15 rfl rfl)
theorem dX2_readText_18 : decode cX2_readText 18 = .ok (.aload_n 0, 1) := dk_42 (dk_at dksX2_readText_0 18 rfl rfl)
theorem dX2_readText_19 : decode cX2_readText 19 = .ok (.getfield 136, 3) := dk_180 0 136 (dk_at dksX2_readText_0 19 rfl rfl)
theorem dX2_readText_22 : decode cX2_readText 22 = .ok (.iconst 0, 1) := dk_3 (dk_at dksX2_readText_0 22 rfl rfl)
theorem dX2_readText_23 : decode cX2_readText 23 = .ok (.iastore, 1) := dk_79 (dk_at dksX2_readText_0 23 rfl rfl)
theorem dX2_readText_24 : decode cX2_readText 24 = .ok (.aload_n 0, 1) := dk_42 (dk_at dksX2_readText_1 0 rfl rfl)
theorem dX2_readText_25 : decode cX2_readText 25 = .ok (.iconst 0, 1) := dk_3 (dk_at dksX2_readText_1 1 rfl rfl)
theorem dX2_readText_26 : decode cX2_readText 26 = .ok (.putfield 139, 3) := dk_181 0 139 (dk_at dksX2_readText_1 2 rfl rfl)
theorem dX2_readText_29 : decode cX2_readText 29 = .ok (.aload_n 0, 1) := dk_42 (dk_at dksX2_readText_1 5 rfl rfl)
theorem dX2_readText_30 : decode cX2_readText 30 = .ok (.iconst 0, 1) := dk_3 (dk_at dksX2_readText_1 6 rfl rfl)
theorem dX2_readText_31 : decode cX2_readText 31 = .ok (.putfield 232, 3) := dk_181 0 232 (dk_at dksX2_readText_1 7 rfl rfl)
theorem dX2_readText_34 : decode cX2_readText 34 = .ok (.aload_n 0, 1) := dk_42 (dk_at dksX2_readText_1 10 rfl rfl)
theorem dX2_readText_35 : decode cX2_readText 35 = .ok (.iconst 0, 1) := dk_3 (dk_at dksX2_readText_1 11 rfl rfl)
theorem dX2_readText_36 : decode cX2_readText 36 = .ok (.putfield 88, 3) := dk_181 0 88 (dk_at dksX2_readText_1 12 rfl rfl)
theorem dX2_readText_39 : decode cX2_readText 39 = .ok (.aload_n 0, 1) := dk_42 (dk_at dksX2_readText_1 15 rfl rfl)
theorem dX2_readText_40 : decode cX2_readText 40 = .ok (.invokevirtual 165, 3) := dk_182 0 165 (dk_at dksX2_readText_1 16 rfl rfl)
theorem dX2_readText_43 : decode cX2_readText 43 = .ok (.aload_n 0, 1) := dk_42 (dk_at dksX2_readText_1 19 rfl rfl)
theorem dX2_readText_44 : decode cX2_readText 44 = .ok (.getfield 98, 3) := dk_180 0 98 (dk_at dksX2_readText_1 20 rfl rfl)
theorem dX2_readText_47 : decode cX2_readText 47 = .ok (.ifCond .eq 17, 3) := dk_153 0 17 (dk_at dksX2_readText_2 0 rfl rfl)
theorem dX2_readText_50 : decode cX2_readText 50 = .ok (.aload_n 0, 1) := dk_42 (dk_at dksX2_readText_2 3 rfl rfl)
theorem dX2_readText_51 : decode cX2_readText 51 = .ok (.invokevirtual 243, 3) := dk_182 0 243 (dk_at dksX2_readText_2 4 rfl rfl)
theorem dX2_readText_54 : decode cX2_readText 54 = .ok (.istore_n 1, 1) := dk_60 (dk_at dksX2_readText_2 7 rfl rfl)
theorem dX2_readText_55 : decode cX2_readText 55 = .ok (.iload_n 1, 1) := dk_27 (dk_at dksX2_readText_2 8 rfl rfl)
theorem dX2_readText_56 : decode cX2_readText 56 = .ok (.ifCond .eq 5, 3) := dk_153 0 5 (dk_at dksX2_readText_2 9 rfl rfl)
theorem dX2_readText_59 : decode cX2_readText 59 = .ok (.iload_n 1, 1) := dk_27 (dk_at dksX2_readText_2 12 rfl rfl)
theorem dX2_readText_60 : decode cX2_readText 60 = .ok (.ireturn, 1) := dk_172 (dk_at dksX2_readText_2 13 rfl rfl)
theorem dX2_readText_61 : decode cX2_readText 61 = .ok (.goto (-18), 3) := dk_167 255 238 (dk_at dksX2_readText_2 14 rfl rfl)
theorem dX2_readText_64 : decode cX2_readText 64 = .ok (.iconst 0, 1) := dk_3 (dk_at dksX2_readText_2 17 rfl rfl)
theorem dX2_readText_65 : decode cX2_readText 65 = .ok (.ireturn, 1) := dk_172 (dk_at dksX2_readText_2 18 rfl rfl)
abbrev cX2_nextToken : ByteArray := prog_20_method_21_code
def yX2_nextToken : MethodName := ⟨RX2, "nextToken", "()V"⟩
def dkwX2_nextToken_13 : List UInt8 := [180, 0, 88, 4, 96, 181, 0, 88, 177]
abbrev dktX2_nextToken_13 : List UInt8 := dkwX2_nextToken_13 ++ []
def dkwX2_nextToken_12 : List UInt8 := [16, 61, 160, 0, 28, 42, 27, 16, 60, 160, 0, 7, 7, 167, 0, 4, 8, 181, 0, 98, 42, 89]
abbrev dktX2_nextToken_12 : List UInt8 := dkwX2_nextToken_12 ++ dktX2_nextToken_13
def dkwX2_nextToken_11 : List UInt8 := [181, 0, 88, 27, 16, 60, 159, 0, 9, 27, 16, 62, 160, 0, 41, 42, 42, 180, 0, 88, 182, 0, 91]
abbrev dktX2_nextToken_11 : List UInt8 := dkwX2_nextToken_11 ++ dktX2_nextToken_12
def dkwX2_nextToken_10 : List UInt8 := [42, 27, 184, 0, 117, 153, 0, 7, 27, 167, 0, 4, 6, 181, 0, 98, 42, 89, 180, 0, 88, 4, 96]
abbrev dktX2_nextToken_10 : List UInt8 := dkwX2_nextToken_10 ++ dktX2_nextToken_11
def dkwX2_nextToken_9 : List UInt8 := [180, 0, 88, 182, 0, 91, 133, 129, 181, 0, 111, 42, 89, 180, 0, 88, 4, 96, 181, 0, 88, 167, 255, 193]
abbrev dktX2_nextToken_9 : List UInt8 := dkwX2_nextToken_9 ++ dktX2_nextToken_10
def dkwX2_nextToken_8 : List UInt8 := [16, 48, 123, 9, 148, 153, 0, 9, 20, 0, 115, 167, 0, 20, 42, 180, 0, 111, 16, 8, 121, 42, 42]
abbrev dktX2_nextToken_8 : List UInt8 := dkwX2_nextToken_8 ++ dktX2_nextToken_9
def dkwX2_nextToken_7 : List UInt8 := [9, 181, 0, 111, 42, 42, 180, 0, 88, 182, 0, 91, 184, 0, 108, 153, 0, 131, 42, 42, 180, 0, 111]
abbrev dktX2_nextToken_7 : List UInt8 := dkwX2_nextToken_7 ++ dktX2_nextToken_8
def dkwX2_nextToken_6 : List UInt8 := [180, 0, 88, 4, 96, 181, 0, 88, 167, 255, 193, 27, 184, 0, 108, 153, 0, 79, 42, 5, 181, 0, 98, 42]
abbrev dktX2_nextToken_6 : List UInt8 := dkwX2_nextToken_6 ++ dktX2_nextToken_7
def dkwX2_nextToken_5 : List UInt8 := [16, 10, 42, 180, 0, 104, 104, 42, 42, 180, 0, 88, 182, 0, 91, 96, 16, 48, 100, 181, 0, 104, 42, 89]
abbrev dktX2_nextToken_5 : List UInt8 := dkwX2_nextToken_5 ++ dktX2_nextToken_6
def dkwX2_nextToken_4 : List UInt8 := [184, 0, 101, 153, 0, 214, 42, 42, 180, 0, 104, 18, 107, 164, 0, 10, 42, 180, 0, 104, 167, 0, 22]
abbrev dktX2_nextToken_4 : List UInt8 := dkwX2_nextToken_4 ++ dktX2_nextToken_5
def dkwX2_nextToken_3 : List UInt8 := [184, 0, 101, 153, 0, 79, 42, 4, 181, 0, 98, 42, 3, 181, 0, 104, 42, 42, 180, 0, 88, 182, 0, 91]
abbrev dktX2_nextToken_3 : List UInt8 := dkwX2_nextToken_3 ++ dktX2_nextToken_4
def dkwX2_nextToken_2 : List UInt8 := [42, 42, 180, 0, 88, 182, 0, 91, 60, 27, 156, 0, 11, 42, 3, 181, 0, 98, 167, 0, 245, 27]
abbrev dktX2_nextToken_2 : List UInt8 := dkwX2_nextToken_2 ++ dktX2_nextToken_3
def dkwX2_nextToken_1 : List UInt8 := [160, 0, 16, 42, 89, 180, 0, 88, 4, 96, 181, 0, 88, 167, 255, 220, 42, 42, 180, 0, 88, 181, 0, 95]
abbrev dktX2_nextToken_1 : List UInt8 := dkwX2_nextToken_1 ++ dktX2_nextToken_2
def dkwX2_nextToken_0 : List UInt8 := [42, 42, 180, 0, 88, 182, 0, 91, 16, 32, 159, 0, 16, 42, 42, 180, 0, 88, 182, 0, 91, 16, 10]
abbrev dktX2_nextToken_0 : List UInt8 := dkwX2_nextToken_0 ++ dktX2_nextToken_1
theorem dksX2_nextToken_0 : cX2_nextToken.data.toList.drop 0 = dktX2_nextToken_0 := by decide +kernel
theorem dksX2_nextToken_1 : cX2_nextToken.data.toList.drop 23 = dktX2_nextToken_1 := dk_seg dksX2_nextToken_0 23 rfl rfl
theorem dksX2_nextToken_2 : cX2_nextToken.data.toList.drop 47 = dktX2_nextToken_2 := dk_seg dksX2_nextToken_1 24 rfl rfl
theorem dksX2_nextToken_3 : cX2_nextToken.data.toList.drop 69 = dktX2_nextToken_3 := dk_seg dksX2_nextToken_2 22 rfl rfl
theorem dksX2_nextToken_4 : cX2_nextToken.data.toList.drop 93 = dktX2_nextToken_4 := dk_seg dksX2_nextToken_3 24 rfl rfl
theorem dksX2_nextToken_5 : cX2_nextToken.data.toList.drop 116 = dktX2_nextToken_5 := dk_seg dksX2_nextToken_4 23 rfl rfl
theorem dksX2_nextToken_6 : cX2_nextToken.data.toList.drop 140 = dktX2_nextToken_6 := dk_seg dksX2_nextToken_5 24 rfl rfl
theorem dksX2_nextToken_7 : cX2_nextToken.data.toList.drop 164 = dktX2_nextToken_7 := dk_seg dksX2_nextToken_6 24 rfl rfl
theorem dksX2_nextToken_8 : cX2_nextToken.data.toList.drop 187 = dktX2_nextToken_8 := dk_seg dksX2_nextToken_7 23 rfl rfl
theorem dksX2_nextToken_9 : cX2_nextToken.data.toList.drop 210 = dktX2_nextToken_9 := dk_seg dksX2_nextToken_8 23 rfl rfl
theorem dksX2_nextToken_10 : cX2_nextToken.data.toList.drop 234 = dktX2_nextToken_10 := dk_seg dksX2_nextToken_9 24 rfl rfl
theorem dksX2_nextToken_11 : cX2_nextToken.data.toList.drop 257 = dktX2_nextToken_11 := dk_seg dksX2_nextToken_10 23 rfl rfl
theorem dksX2_nextToken_12 : cX2_nextToken.data.toList.drop 280 = dktX2_nextToken_12 := dk_seg dksX2_nextToken_11 23 rfl rfl
theorem dksX2_nextToken_13 : cX2_nextToken.data.toList.drop 302 = dktX2_nextToken_13 := dk_seg dksX2_nextToken_12 22 rfl rfl
theorem dX2_nextToken_0 : decode cX2_nextToken 0 = .ok (.aload_n 0, 1) := dk_42 (dk_at dksX2_nextToken_0 0 rfl rfl)
theorem dX2_nextToken_1 : decode cX2_nextToken 1 = .ok (.aload_n 0, 1) := dk_42 (dk_at dksX2_nextToken_0 1 rfl rfl)
theorem dX2_nextToken_2 : decode cX2_nextToken 2 = .ok (.getfield 88, 3) := dk_180 0 88 (dk_at dksX2_nextToken_0 2 rfl rfl)
theorem dX2_nextToken_5 : decode cX2_nextToken 5 = .ok (.invokevirtual 91, 3) := dk_182 0 91 (dk_at dksX2_nextToken_0 5 rfl rfl)
theorem dX2_nextToken_8 : decode cX2_nextToken 8 = .ok (.bipush 32, 2) := dk_16 32 (dk_at dksX2_nextToken_0 8 rfl rfl)
theorem dX2_nextToken_10 : decode cX2_nextToken 10 = .ok (.if_icmp .eq 16, 3) := dk_159 0 16 (dk_at dksX2_nextToken_0 10 rfl rfl)
theorem dX2_nextToken_13 : decode cX2_nextToken 13 = .ok (.aload_n 0, 1) := dk_42 (dk_at dksX2_nextToken_0 13 rfl rfl)
theorem dX2_nextToken_14 : decode cX2_nextToken 14 = .ok (.aload_n 0, 1) := dk_42 (dk_at dksX2_nextToken_0 14 rfl rfl)
theorem dX2_nextToken_15 : decode cX2_nextToken 15 = .ok (.getfield 88, 3) := dk_180 0 88 (dk_at dksX2_nextToken_0 15 rfl rfl)
theorem dX2_nextToken_18 : decode cX2_nextToken 18 = .ok (.invokevirtual 91, 3) := dk_182 0 91 (dk_at dksX2_nextToken_0 18 rfl rfl)
theorem dX2_nextToken_21 : decode cX2_nextToken 21 = .ok (.bipush 10, 2) := dk_16 10 (dk_at dksX2_nextToken_0 21 rfl rfl)
theorem dX2_nextToken_23 : decode cX2_nextToken 23 = .ok (.if_icmp .ne 16, 3) := dk_160 0 16 (dk_at dksX2_nextToken_1 0 rfl rfl)
theorem dX2_nextToken_26 : decode cX2_nextToken 26 = .ok (.aload_n 0, 1) := dk_42 (dk_at dksX2_nextToken_1 3 rfl rfl)
theorem dX2_nextToken_27 : decode cX2_nextToken 27 = .ok (.dup, 1) := dk_89 (dk_at dksX2_nextToken_1 4 rfl rfl)
theorem dX2_nextToken_28 : decode cX2_nextToken 28 = .ok (.getfield 88, 3) := dk_180 0 88 (dk_at dksX2_nextToken_1 5 rfl rfl)
theorem dX2_nextToken_31 : decode cX2_nextToken 31 = .ok (.iconst 1, 1) := dk_4 (dk_at dksX2_nextToken_1 8 rfl rfl)
theorem dX2_nextToken_32 : decode cX2_nextToken 32 = .ok (.iadd, 1) := dk_96 (dk_at dksX2_nextToken_1 9 rfl rfl)
theorem dX2_nextToken_33 : decode cX2_nextToken 33 = .ok (.putfield 88, 3) := dk_181 0 88 (dk_at dksX2_nextToken_1 10 rfl rfl)
theorem dX2_nextToken_36 : decode cX2_nextToken 36 = .ok (.goto (-36), 3) := dk_167 255 220 (dk_at dksX2_nextToken_1 13 rfl rfl)
theorem dX2_nextToken_39 : decode cX2_nextToken 39 = .ok (.aload_n 0, 1) := dk_42 (dk_at dksX2_nextToken_1 16 rfl rfl)
theorem dX2_nextToken_40 : decode cX2_nextToken 40 = .ok (.aload_n 0, 1) := dk_42 (dk_at dksX2_nextToken_1 17 rfl rfl)
theorem dX2_nextToken_41 : decode cX2_nextToken 41 = .ok (.getfield 88, 3) := dk_180 0 88 (dk_at dksX2_nextToken_1 18 rfl rfl)
theorem dX2_nextToken_44 : decode cX2_nextToken 44 = .ok (.putfield 95, 3) := dk_181 0 95 (dk_at dksX2_nextToken_1 21 rfl rfl)
theorem dX2_nextToken_47 : decode cX2_nextToken 47 = .ok (.aload_n 0, 1) := dk_42 (dk_at dksX2_nextToken_2 0 rfl rfl)
theorem dX2_nextToken_48 : decode cX2_nextToken 48 = .ok (.aload_n 0, 1) := dk_42 (dk_at dksX2_nextToken_2 1 rfl rfl)
theorem dX2_nextToken_49 : decode cX2_nextToken 49 = .ok (.getfield 88, 3) := dk_180 0 88 (dk_at dksX2_nextToken_2 2 rfl rfl)
theorem dX2_nextToken_52 : decode cX2_nextToken 52 = .ok (.invokevirtual 91, 3) := dk_182 0 91 (dk_at dksX2_nextToken_2 5 rfl rfl)
theorem dX2_nextToken_55 : decode cX2_nextToken 55 = .ok (.istore_n 1, 1) := dk_60 (dk_at dksX2_nextToken_2 8 rfl rfl)
theorem dX2_nextToken_56 : decode cX2_nextToken 56 = .ok (.iload_n 1, 1) := dk_27 (dk_at dksX2_nextToken_2 9 rfl rfl)
theorem dX2_nextToken_57 : decode cX2_nextToken 57 = .ok (.ifCond .ge 11, 3) := dk_156 0 11 (dk_at dksX2_nextToken_2 10 rfl rfl)
theorem dX2_nextToken_60 : decode cX2_nextToken 60 = .ok (.aload_n 0, 1) := dk_42 (dk_at dksX2_nextToken_2 13 rfl rfl)
theorem dX2_nextToken_61 : decode cX2_nextToken 61 = .ok (.iconst 0, 1) := dk_3 (dk_at dksX2_nextToken_2 14 rfl rfl)
theorem dX2_nextToken_62 : decode cX2_nextToken 62 = .ok (.putfield 98, 3) := dk_181 0 98 (dk_at dksX2_nextToken_2 15 rfl rfl)
theorem dX2_nextToken_65 : decode cX2_nextToken 65 = .ok (.goto 245, 3) := dk_167 0 245 (dk_at dksX2_nextToken_2 18 rfl rfl)
theorem dX2_nextToken_68 : decode cX2_nextToken 68 = .ok (.iload_n 1, 1) := dk_27 (dk_at dksX2_nextToken_2 21 rfl rfl)
theorem dX2_nextToken_69 : decode cX2_nextToken 69 = .ok (.invokestatic 101, 3) := dk_184 0 101 (dk_at dksX2_nextToken_3 0 rfl rfl)
theorem dX2_nextToken_72 : decode cX2_nextToken 72 = .ok (.ifCond .eq 79, 3) := dk_153 0 79 (dk_at dksX2_nextToken_3 3 rfl rfl)
theorem dX2_nextToken_75 : decode cX2_nextToken 75 = .ok (.aload_n 0, 1) := dk_42 (dk_at dksX2_nextToken_3 6 rfl rfl)
theorem dX2_nextToken_76 : decode cX2_nextToken 76 = .ok (.iconst 1, 1) := dk_4 (dk_at dksX2_nextToken_3 7 rfl rfl)
theorem dX2_nextToken_77 : decode cX2_nextToken 77 = .ok (.putfield 98, 3) := dk_181 0 98 (dk_at dksX2_nextToken_3 8 rfl rfl)
theorem dX2_nextToken_80 : decode cX2_nextToken 80 = .ok (.aload_n 0, 1) := dk_42 (dk_at dksX2_nextToken_3 11 rfl rfl)
theorem dX2_nextToken_81 : decode cX2_nextToken 81 = .ok (.iconst 0, 1) := dk_3 (dk_at dksX2_nextToken_3 12 rfl rfl)
theorem dX2_nextToken_82 : decode cX2_nextToken 82 = .ok (.putfield 104, 3) := dk_181 0 104 (dk_at dksX2_nextToken_3 13 rfl rfl)
theorem dX2_nextToken_85 : decode cX2_nextToken 85 = .ok (.aload_n 0, 1) := dk_42 (dk_at dksX2_nextToken_3 16 rfl rfl)
theorem dX2_nextToken_86 : decode cX2_nextToken 86 = .ok (.aload_n 0, 1) := dk_42 (dk_at dksX2_nextToken_3 17 rfl rfl)
theorem dX2_nextToken_87 : decode cX2_nextToken 87 = .ok (.getfield 88, 3) := dk_180 0 88 (dk_at dksX2_nextToken_3 18 rfl rfl)
theorem dX2_nextToken_90 : decode cX2_nextToken 90 = .ok (.invokevirtual 91, 3) := dk_182 0 91 (dk_at dksX2_nextToken_3 21 rfl rfl)
theorem dX2_nextToken_93 : decode cX2_nextToken 93 = .ok (.invokestatic 101, 3) := dk_184 0 101 (dk_at dksX2_nextToken_4 0 rfl rfl)
theorem dX2_nextToken_96 : decode cX2_nextToken 96 = .ok (.ifCond .eq 214, 3) := dk_153 0 214 (dk_at dksX2_nextToken_4 3 rfl rfl)
theorem dX2_nextToken_99 : decode cX2_nextToken 99 = .ok (.aload_n 0, 1) := dk_42 (dk_at dksX2_nextToken_4 6 rfl rfl)
theorem dX2_nextToken_100 : decode cX2_nextToken 100 = .ok (.aload_n 0, 1) := dk_42 (dk_at dksX2_nextToken_4 7 rfl rfl)
theorem dX2_nextToken_101 : decode cX2_nextToken 101 = .ok (.getfield 104, 3) := dk_180 0 104 (dk_at dksX2_nextToken_4 8 rfl rfl)
theorem dX2_nextToken_104 : decode cX2_nextToken 104 = .ok (.ldc 107, 2) := dk_18 107 (dk_at dksX2_nextToken_4 11 rfl rfl)
theorem dX2_nextToken_106 : decode cX2_nextToken 106 = .ok (.if_icmp .le 10, 3) := dk_164 0 10 (dk_at dksX2_nextToken_4 13 rfl rfl)
theorem dX2_nextToken_109 : decode cX2_nextToken 109 = .ok (.aload_n 0, 1) := dk_42 (dk_at dksX2_nextToken_4 16 rfl rfl)
theorem dX2_nextToken_110 : decode cX2_nextToken 110 = .ok (.getfield 104, 3) := dk_180 0 104 (dk_at dksX2_nextToken_4 17 rfl rfl)
theorem dX2_nextToken_113 : decode cX2_nextToken 113 = .ok (.goto 22, 3) := dk_167 0 22 (dk_at dksX2_nextToken_4 20 rfl rfl)
theorem dX2_nextToken_116 : decode cX2_nextToken 116 = .ok (.bipush 10, 2) := dk_16 10 (dk_at dksX2_nextToken_5 0 rfl rfl)
theorem dX2_nextToken_118 : decode cX2_nextToken 118 = .ok (.aload_n 0, 1) := dk_42 (dk_at dksX2_nextToken_5 2 rfl rfl)
theorem dX2_nextToken_119 : decode cX2_nextToken 119 = .ok (.getfield 104, 3) := dk_180 0 104 (dk_at dksX2_nextToken_5 3 rfl rfl)
theorem dX2_nextToken_122 : decode cX2_nextToken 122 = .ok (.imul, 1) := dk_104 (dk_at dksX2_nextToken_5 6 rfl rfl)
theorem dX2_nextToken_123 : decode cX2_nextToken 123 = .ok (.aload_n 0, 1) := dk_42 (dk_at dksX2_nextToken_5 7 rfl rfl)
theorem dX2_nextToken_124 : decode cX2_nextToken 124 = .ok (.aload_n 0, 1) := dk_42 (dk_at dksX2_nextToken_5 8 rfl rfl)
theorem dX2_nextToken_125 : decode cX2_nextToken 125 = .ok (.getfield 88, 3) := dk_180 0 88 (dk_at dksX2_nextToken_5 9 rfl rfl)
theorem dX2_nextToken_128 : decode cX2_nextToken 128 = .ok (.invokevirtual 91, 3) := dk_182 0 91 (dk_at dksX2_nextToken_5 12 rfl rfl)
theorem dX2_nextToken_131 : decode cX2_nextToken 131 = .ok (.iadd, 1) := dk_96 (dk_at dksX2_nextToken_5 15 rfl rfl)
theorem dX2_nextToken_132 : decode cX2_nextToken 132 = .ok (.bipush 48, 2) := dk_16 48 (dk_at dksX2_nextToken_5 16 rfl rfl)
theorem dX2_nextToken_134 : decode cX2_nextToken 134 = .ok (.isub, 1) := dk_100 (dk_at dksX2_nextToken_5 18 rfl rfl)
theorem dX2_nextToken_135 : decode cX2_nextToken 135 = .ok (.putfield 104, 3) := dk_181 0 104 (dk_at dksX2_nextToken_5 19 rfl rfl)
theorem dX2_nextToken_138 : decode cX2_nextToken 138 = .ok (.aload_n 0, 1) := dk_42 (dk_at dksX2_nextToken_5 22 rfl rfl)
theorem dX2_nextToken_139 : decode cX2_nextToken 139 = .ok (.dup, 1) := dk_89 (dk_at dksX2_nextToken_5 23 rfl rfl)
theorem dX2_nextToken_140 : decode cX2_nextToken 140 = .ok (.getfield 88, 3) := dk_180 0 88 (dk_at dksX2_nextToken_6 0 rfl rfl)
theorem dX2_nextToken_143 : decode cX2_nextToken 143 = .ok (.iconst 1, 1) := dk_4 (dk_at dksX2_nextToken_6 3 rfl rfl)
theorem dX2_nextToken_144 : decode cX2_nextToken 144 = .ok (.iadd, 1) := dk_96 (dk_at dksX2_nextToken_6 4 rfl rfl)
theorem dX2_nextToken_145 : decode cX2_nextToken 145 = .ok (.putfield 88, 3) := dk_181 0 88 (dk_at dksX2_nextToken_6 5 rfl rfl)
theorem dX2_nextToken_148 : decode cX2_nextToken 148 = .ok (.goto (-63), 3) := dk_167 255 193 (dk_at dksX2_nextToken_6 8 rfl rfl)
theorem dX2_nextToken_151 : decode cX2_nextToken 151 = .ok (.iload_n 1, 1) := dk_27 (dk_at dksX2_nextToken_6 11 rfl rfl)
theorem dX2_nextToken_152 : decode cX2_nextToken 152 = .ok (.invokestatic 108, 3) := dk_184 0 108 (dk_at dksX2_nextToken_6 12 rfl rfl)
theorem dX2_nextToken_155 : decode cX2_nextToken 155 = .ok (.ifCond .eq 79, 3) := dk_153 0 79 (dk_at dksX2_nextToken_6 15 rfl rfl)
theorem dX2_nextToken_158 : decode cX2_nextToken 158 = .ok (.aload_n 0, 1) := dk_42 (dk_at dksX2_nextToken_6 18 rfl rfl)
theorem dX2_nextToken_159 : decode cX2_nextToken 159 = .ok (.iconst 2, 1) := dk_5 (dk_at dksX2_nextToken_6 19 rfl rfl)
theorem dX2_nextToken_160 : decode cX2_nextToken 160 = .ok (.putfield 98, 3) := dk_181 0 98 (dk_at dksX2_nextToken_6 20 rfl rfl)
theorem dX2_nextToken_163 : decode cX2_nextToken 163 = .ok (.aload_n 0, 1) := dk_42 (dk_at dksX2_nextToken_6 23 rfl rfl)
theorem dX2_nextToken_164 : decode cX2_nextToken 164 = .ok (.lconst 0, 1) := dk_9 (dk_at dksX2_nextToken_7 0 rfl rfl)
theorem dX2_nextToken_165 : decode cX2_nextToken 165 = .ok (.putfield 111, 3) := dk_181 0 111 (dk_at dksX2_nextToken_7 1 rfl rfl)
theorem dX2_nextToken_168 : decode cX2_nextToken 168 = .ok (.aload_n 0, 1) := dk_42 (dk_at dksX2_nextToken_7 4 rfl rfl)
theorem dX2_nextToken_169 : decode cX2_nextToken 169 = .ok (.aload_n 0, 1) := dk_42 (dk_at dksX2_nextToken_7 5 rfl rfl)
theorem dX2_nextToken_170 : decode cX2_nextToken 170 = .ok (.getfield 88, 3) := dk_180 0 88 (dk_at dksX2_nextToken_7 6 rfl rfl)
theorem dX2_nextToken_173 : decode cX2_nextToken 173 = .ok (.invokevirtual 91, 3) := dk_182 0 91 (dk_at dksX2_nextToken_7 9 rfl rfl)
theorem dX2_nextToken_176 : decode cX2_nextToken 176 = .ok (.invokestatic 108, 3) := dk_184 0 108 (dk_at dksX2_nextToken_7 12 rfl rfl)
theorem dX2_nextToken_179 : decode cX2_nextToken 179 = .ok (.ifCond .eq 131, 3) := dk_153 0 131 (dk_at dksX2_nextToken_7 15 rfl rfl)
theorem dX2_nextToken_182 : decode cX2_nextToken 182 = .ok (.aload_n 0, 1) := dk_42 (dk_at dksX2_nextToken_7 18 rfl rfl)
theorem dX2_nextToken_183 : decode cX2_nextToken 183 = .ok (.aload_n 0, 1) := dk_42 (dk_at dksX2_nextToken_7 19 rfl rfl)
theorem dX2_nextToken_184 : decode cX2_nextToken 184 = .ok (.getfield 111, 3) := dk_180 0 111 (dk_at dksX2_nextToken_7 20 rfl rfl)
theorem dX2_nextToken_187 : decode cX2_nextToken 187 = .ok (.bipush 48, 2) := dk_16 48 (dk_at dksX2_nextToken_8 0 rfl rfl)
theorem dX2_nextToken_189 : decode cX2_nextToken 189 = .ok (.lshr, 1) := dk_123 (dk_at dksX2_nextToken_8 2 rfl rfl)
theorem dX2_nextToken_190 : decode cX2_nextToken 190 = .ok (.lconst 0, 1) := dk_9 (dk_at dksX2_nextToken_8 3 rfl rfl)
theorem dX2_nextToken_191 : decode cX2_nextToken 191 = .ok (.lcmp, 1) := dk_148 (dk_at dksX2_nextToken_8 4 rfl rfl)
theorem dX2_nextToken_192 : decode cX2_nextToken 192 = .ok (.ifCond .eq 9, 3) := dk_153 0 9 (dk_at dksX2_nextToken_8 5 rfl rfl)
theorem dX2_nextToken_195 : decode cX2_nextToken 195 = .ok (.ldc2_w 115, 3) := dk_20 0 115 (dk_at dksX2_nextToken_8 8 rfl rfl)
theorem dX2_nextToken_198 : decode cX2_nextToken 198 = .ok (.goto 20, 3) := dk_167 0 20 (dk_at dksX2_nextToken_8 11 rfl rfl)
theorem dX2_nextToken_201 : decode cX2_nextToken 201 = .ok (.aload_n 0, 1) := dk_42 (dk_at dksX2_nextToken_8 14 rfl rfl)
theorem dX2_nextToken_202 : decode cX2_nextToken 202 = .ok (.getfield 111, 3) := dk_180 0 111 (dk_at dksX2_nextToken_8 15 rfl rfl)
theorem dX2_nextToken_205 : decode cX2_nextToken 205 = .ok (.bipush 8, 2) := dk_16 8 (dk_at dksX2_nextToken_8 18 rfl rfl)
theorem dX2_nextToken_207 : decode cX2_nextToken 207 = .ok (.lshl, 1) := dk_121 (dk_at dksX2_nextToken_8 20 rfl rfl)
theorem dX2_nextToken_208 : decode cX2_nextToken 208 = .ok (.aload_n 0, 1) := dk_42 (dk_at dksX2_nextToken_8 21 rfl rfl)
theorem dX2_nextToken_209 : decode cX2_nextToken 209 = .ok (.aload_n 0, 1) := dk_42 (dk_at dksX2_nextToken_8 22 rfl rfl)
theorem dX2_nextToken_210 : decode cX2_nextToken 210 = .ok (.getfield 88, 3) := dk_180 0 88 (dk_at dksX2_nextToken_9 0 rfl rfl)
theorem dX2_nextToken_213 : decode cX2_nextToken 213 = .ok (.invokevirtual 91, 3) := dk_182 0 91 (dk_at dksX2_nextToken_9 3 rfl rfl)
theorem dX2_nextToken_216 : decode cX2_nextToken 216 = .ok (.i2l, 1) := dk_133 (dk_at dksX2_nextToken_9 6 rfl rfl)
theorem dX2_nextToken_217 : decode cX2_nextToken 217 = .ok (.lor, 1) := dk_129 (dk_at dksX2_nextToken_9 7 rfl rfl)
theorem dX2_nextToken_218 : decode cX2_nextToken 218 = .ok (.putfield 111, 3) := dk_181 0 111 (dk_at dksX2_nextToken_9 8 rfl rfl)
theorem dX2_nextToken_221 : decode cX2_nextToken 221 = .ok (.aload_n 0, 1) := dk_42 (dk_at dksX2_nextToken_9 11 rfl rfl)
theorem dX2_nextToken_222 : decode cX2_nextToken 222 = .ok (.dup, 1) := dk_89 (dk_at dksX2_nextToken_9 12 rfl rfl)
theorem dX2_nextToken_223 : decode cX2_nextToken 223 = .ok (.getfield 88, 3) := dk_180 0 88 (dk_at dksX2_nextToken_9 13 rfl rfl)
theorem dX2_nextToken_226 : decode cX2_nextToken 226 = .ok (.iconst 1, 1) := dk_4 (dk_at dksX2_nextToken_9 16 rfl rfl)
theorem dX2_nextToken_227 : decode cX2_nextToken 227 = .ok (.iadd, 1) := dk_96 (dk_at dksX2_nextToken_9 17 rfl rfl)
theorem dX2_nextToken_228 : decode cX2_nextToken 228 = .ok (.putfield 88, 3) := dk_181 0 88 (dk_at dksX2_nextToken_9 18 rfl rfl)
theorem dX2_nextToken_231 : decode cX2_nextToken 231 = .ok (.goto (-63), 3) := dk_167 255 193 (dk_at dksX2_nextToken_9 21 rfl rfl)
theorem dX2_nextToken_234 : decode cX2_nextToken 234 = .ok (.aload_n 0, 1) := dk_42 (dk_at dksX2_nextToken_10 0 rfl rfl)
theorem dX2_nextToken_235 : decode cX2_nextToken 235 = .ok (.iload_n 1, 1) := dk_27 (dk_at dksX2_nextToken_10 1 rfl rfl)
theorem dX2_nextToken_236 : decode cX2_nextToken 236 = .ok (.invokestatic 117, 3) := dk_184 0 117 (dk_at dksX2_nextToken_10 2 rfl rfl)
theorem dX2_nextToken_239 : decode cX2_nextToken 239 = .ok (.ifCond .eq 7, 3) := dk_153 0 7 (dk_at dksX2_nextToken_10 5 rfl rfl)
theorem dX2_nextToken_242 : decode cX2_nextToken 242 = .ok (.iload_n 1, 1) := dk_27 (dk_at dksX2_nextToken_10 8 rfl rfl)
theorem dX2_nextToken_243 : decode cX2_nextToken 243 = .ok (.goto 4, 3) := dk_167 0 4 (dk_at dksX2_nextToken_10 9 rfl rfl)
theorem dX2_nextToken_246 : decode cX2_nextToken 246 = .ok (.iconst 3, 1) := dk_6 (dk_at dksX2_nextToken_10 12 rfl rfl)
theorem dX2_nextToken_247 : decode cX2_nextToken 247 = .ok (.putfield 98, 3) := dk_181 0 98 (dk_at dksX2_nextToken_10 13 rfl rfl)
theorem dX2_nextToken_250 : decode cX2_nextToken 250 = .ok (.aload_n 0, 1) := dk_42 (dk_at dksX2_nextToken_10 16 rfl rfl)
theorem dX2_nextToken_251 : decode cX2_nextToken 251 = .ok (.dup, 1) := dk_89 (dk_at dksX2_nextToken_10 17 rfl rfl)
theorem dX2_nextToken_252 : decode cX2_nextToken 252 = .ok (.getfield 88, 3) := dk_180 0 88 (dk_at dksX2_nextToken_10 18 rfl rfl)
theorem dX2_nextToken_255 : decode cX2_nextToken 255 = .ok (.iconst 1, 1) := dk_4 (dk_at dksX2_nextToken_10 21 rfl rfl)
theorem dX2_nextToken_256 : decode cX2_nextToken 256 = .ok (.iadd, 1) := dk_96 (dk_at dksX2_nextToken_10 22 rfl rfl)
theorem dX2_nextToken_257 : decode cX2_nextToken 257 = .ok (.putfield 88, 3) := dk_181 0 88 (dk_at dksX2_nextToken_11 0 rfl rfl)
theorem dX2_nextToken_260 : decode cX2_nextToken 260 = .ok (.iload_n 1, 1) := dk_27 (dk_at dksX2_nextToken_11 3 rfl rfl)
theorem dX2_nextToken_261 : decode cX2_nextToken 261 = .ok (.bipush 60, 2) := dk_16 60 (dk_at dksX2_nextToken_11 4 rfl rfl)
theorem dX2_nextToken_263 : decode cX2_nextToken 263 = .ok (.if_icmp .eq 9, 3) := dk_159 0 9 (dk_at dksX2_nextToken_11 6 rfl rfl)
theorem dX2_nextToken_266 : decode cX2_nextToken 266 = .ok (.iload_n 1, 1) := dk_27 (dk_at dksX2_nextToken_11 9 rfl rfl)
theorem dX2_nextToken_267 : decode cX2_nextToken 267 = .ok (.bipush 62, 2) := dk_16 62 (dk_at dksX2_nextToken_11 10 rfl rfl)
theorem dX2_nextToken_269 : decode cX2_nextToken 269 = .ok (.if_icmp .ne 41, 3) := dk_160 0 41 (dk_at dksX2_nextToken_11 12 rfl rfl)
theorem dX2_nextToken_272 : decode cX2_nextToken 272 = .ok (.aload_n 0, 1) := dk_42 (dk_at dksX2_nextToken_11 15 rfl rfl)
theorem dX2_nextToken_273 : decode cX2_nextToken 273 = .ok (.aload_n 0, 1) := dk_42 (dk_at dksX2_nextToken_11 16 rfl rfl)
theorem dX2_nextToken_274 : decode cX2_nextToken 274 = .ok (.getfield 88, 3) := dk_180 0 88 (dk_at dksX2_nextToken_11 17 rfl rfl)
theorem dX2_nextToken_277 : decode cX2_nextToken 277 = .ok (.invokevirtual 91, 3) := dk_182 0 91 (dk_at dksX2_nextToken_11 20 rfl rfl)
theorem dX2_nextToken_280 : decode cX2_nextToken 280 = .ok (.bipush 61, 2) := dk_16 61 (dk_at dksX2_nextToken_12 0 rfl rfl)
theorem dX2_nextToken_282 : decode cX2_nextToken 282 = .ok (.if_icmp .ne 28, 3) := dk_160 0 28 (dk_at dksX2_nextToken_12 2 rfl rfl)
theorem dX2_nextToken_285 : decode cX2_nextToken 285 = .ok (.aload_n 0, 1) := dk_42 (dk_at dksX2_nextToken_12 5 rfl rfl)
theorem dX2_nextToken_286 : decode cX2_nextToken 286 = .ok (.iload_n 1, 1) := dk_27 (dk_at dksX2_nextToken_12 6 rfl rfl)
theorem dX2_nextToken_287 : decode cX2_nextToken 287 = .ok (.bipush 60, 2) := dk_16 60 (dk_at dksX2_nextToken_12 7 rfl rfl)
theorem dX2_nextToken_289 : decode cX2_nextToken 289 = .ok (.if_icmp .ne 7, 3) := dk_160 0 7 (dk_at dksX2_nextToken_12 9 rfl rfl)
theorem dX2_nextToken_292 : decode cX2_nextToken 292 = .ok (.iconst 4, 1) := dk_7 (dk_at dksX2_nextToken_12 12 rfl rfl)
theorem dX2_nextToken_293 : decode cX2_nextToken 293 = .ok (.goto 4, 3) := dk_167 0 4 (dk_at dksX2_nextToken_12 13 rfl rfl)
theorem dX2_nextToken_296 : decode cX2_nextToken 296 = .ok (.iconst 5, 1) := dk_8 (dk_at dksX2_nextToken_12 16 rfl rfl)
theorem dX2_nextToken_297 : decode cX2_nextToken 297 = .ok (.putfield 98, 3) := dk_181 0 98 (dk_at dksX2_nextToken_12 17 rfl rfl)
theorem dX2_nextToken_300 : decode cX2_nextToken 300 = .ok (.aload_n 0, 1) := dk_42 (dk_at dksX2_nextToken_12 20 rfl rfl)
theorem dX2_nextToken_301 : decode cX2_nextToken 301 = .ok (.dup, 1) := dk_89 (dk_at dksX2_nextToken_12 21 rfl rfl)
theorem dX2_nextToken_302 : decode cX2_nextToken 302 = .ok (.getfield 88, 3) := dk_180 0 88 (dk_at dksX2_nextToken_13 0 rfl rfl)
theorem dX2_nextToken_305 : decode cX2_nextToken 305 = .ok (.iconst 1, 1) := dk_4 (dk_at dksX2_nextToken_13 3 rfl rfl)
theorem dX2_nextToken_306 : decode cX2_nextToken 306 = .ok (.iadd, 1) := dk_96 (dk_at dksX2_nextToken_13 4 rfl rfl)
theorem dX2_nextToken_307 : decode cX2_nextToken 307 = .ok (.putfield 88, 3) := dk_181 0 88 (dk_at dksX2_nextToken_13 5 rfl rfl)
theorem dX2_nextToken_310 : decode cX2_nextToken 310 = .ok (.return_, 1) := dk_177 (dk_at dksX2_nextToken_13 8 rfl rfl)
abbrev cX2_byteAt : ByteArray := prog_20_method_17_code
def yX2_byteAt : MethodName := ⟨RX2, "byteAt", "(I)I"⟩
def dkwX2_byteAt_0 : List UInt8 := [27, 42, 180, 0, 81, 162, 0, 12, 42, 180, 0, 19, 27, 46, 167, 0, 4, 2, 172]
abbrev dktX2_byteAt_0 : List UInt8 := dkwX2_byteAt_0 ++ []
theorem dksX2_byteAt_0 : cX2_byteAt.data.toList.drop 0 = dktX2_byteAt_0 := by decide +kernel
theorem dX2_byteAt_0 : decode cX2_byteAt 0 = .ok (.iload_n 1, 1) := dk_27 (dk_at dksX2_byteAt_0 0 rfl rfl)
theorem dX2_byteAt_1 : decode cX2_byteAt 1 = .ok (.aload_n 0, 1) := dk_42 (dk_at dksX2_byteAt_0 1 rfl rfl)
theorem dX2_byteAt_2 : decode cX2_byteAt 2 = .ok (.getfield 81, 3) := dk_180 0 81 (dk_at dksX2_byteAt_0 2 rfl rfl)
theorem dX2_byteAt_5 : decode cX2_byteAt 5 = .ok (.if_icmp .ge 12, 3) := dk_162 0 12 (dk_at dksX2_byteAt_0 5 rfl rfl)
theorem dX2_byteAt_8 : decode cX2_byteAt 8 = .ok (.aload_n 0, 1) := dk_42 (dk_at dksX2_byteAt_0 8 rfl rfl)
theorem dX2_byteAt_9 : decode cX2_byteAt 9 = .ok (.getfield 19, 3) := dk_180 0 19 (dk_at dksX2_byteAt_0 9 rfl rfl)
theorem dX2_byteAt_12 : decode cX2_byteAt 12 = .ok (.iload_n 1, 1) := dk_27 (dk_at dksX2_byteAt_0 12 rfl rfl)
theorem dX2_byteAt_13 : decode cX2_byteAt 13 = .ok (.iaload, 1) := dk_46 (dk_at dksX2_byteAt_0 13 rfl rfl)
theorem dX2_byteAt_14 : decode cX2_byteAt 14 = .ok (.goto 4, 3) := dk_167 0 4 (dk_at dksX2_byteAt_0 14 rfl rfl)
theorem dX2_byteAt_17 : decode cX2_byteAt 17 = .ok (.iconst (-1), 1) := dk_2 (dk_at dksX2_byteAt_0 17 rfl rfl)
theorem dX2_byteAt_18 : decode cX2_byteAt 18 = .ok (.ireturn, 1) := dk_172 (dk_at dksX2_byteAt_0 18 rfl rfl)
abbrev cX2_isFigure : ByteArray := prog_20_method_19_code
def yX2_isFigure : MethodName := ⟨RX2, "isFigure", "(I)Z"⟩
def dkwX2_isFigure_0 : List UInt8 := [26, 16, 48, 161, 0, 13, 26, 16, 57, 163, 0, 7, 4, 167, 0, 4, 3, 172]
abbrev dktX2_isFigure_0 : List UInt8 := dkwX2_isFigure_0 ++ []
theorem dksX2_isFigure_0 : cX2_isFigure.data.toList.drop 0 = dktX2_isFigure_0 := by decide +kernel
theorem dX2_isFigure_0 : decode cX2_isFigure 0 = .ok (.iload_n 0, 1) := dk_26 (dk_at dksX2_isFigure_0 0 rfl rfl)
theorem dX2_isFigure_1 : decode cX2_isFigure 1 = .ok (.bipush 48, 2) := dk_16 48 (dk_at dksX2_isFigure_0 1 rfl rfl)
theorem dX2_isFigure_3 : decode cX2_isFigure 3 = .ok (.if_icmp .lt 13, 3) := dk_161 0 13 (dk_at dksX2_isFigure_0 3 rfl rfl)
theorem dX2_isFigure_6 : decode cX2_isFigure 6 = .ok (.iload_n 0, 1) := dk_26 (dk_at dksX2_isFigure_0 6 rfl rfl)
theorem dX2_isFigure_7 : decode cX2_isFigure 7 = .ok (.bipush 57, 2) := dk_16 57 (dk_at dksX2_isFigure_0 7 rfl rfl)
theorem dX2_isFigure_9 : decode cX2_isFigure 9 = .ok (.if_icmp .gt 7, 3) := dk_163 0 7 (dk_at dksX2_isFigure_0 9 rfl rfl)
theorem dX2_isFigure_12 : decode cX2_isFigure 12 = .ok (.iconst 1, 1) := dk_4 (dk_at dksX2_isFigure_0 12 rfl rfl)
theorem dX2_isFigure_13 : decode cX2_isFigure 13 = .ok (.goto 4, 3) := dk_167 0 4 (dk_at dksX2_isFigure_0 13 rfl rfl)
theorem dX2_isFigure_16 : decode cX2_isFigure 16 = .ok (.iconst 0, 1) := dk_3 (dk_at dksX2_isFigure_0 16 rfl rfl)
theorem dX2_isFigure_17 : decode cX2_isFigure 17 = .ok (.ireturn, 1) := dk_172 (dk_at dksX2_isFigure_0 17 rfl rfl)
abbrev cX2_isLetterByte : ByteArray := prog_20_method_18_code
def yX2_isLetterByte : MethodName := ⟨RX2, "isLetterByte", "(I)Z"⟩
def dkwX2_isLetterByte_1 : List UInt8 := [4, 167, 0, 4, 3, 172]
abbrev dktX2_isLetterByte_1 : List UInt8 := dkwX2_isLetterByte_1 ++ []
def dkwX2_isLetterByte_0 : List UInt8 := [26, 16, 97, 161, 0, 9, 26, 16, 122, 164, 0, 15, 26, 16, 65, 161, 0, 13, 26, 16, 90, 163, 0, 7]
abbrev dktX2_isLetterByte_0 : List UInt8 := dkwX2_isLetterByte_0 ++ dktX2_isLetterByte_1
theorem dksX2_isLetterByte_0 : cX2_isLetterByte.data.toList.drop 0 = dktX2_isLetterByte_0 := by decide +kernel
theorem dksX2_isLetterByte_1 : cX2_isLetterByte.data.toList.drop 24 = dktX2_isLetterByte_1 := dk_seg dksX2_isLetterByte_0 24 rfl rfl
theorem dX2_isLetterByte_0 : decode cX2_isLetterByte 0 = .ok (.iload_n 0, 1) := dk_26 (dk_at dksX2_isLetterByte_0 0 rfl rfl)
theorem dX2_isLetterByte_1 : decode cX2_isLetterByte 1 = .ok (.bipush 97, 2) := dk_16 97 (dk_at dksX2_isLetterByte_0 1 rfl rfl)
theorem dX2_isLetterByte_3 : decode cX2_isLetterByte 3 = .ok (.if_icmp .lt 9, 3) := dk_161 0 9 (dk_at dksX2_isLetterByte_0 3 rfl rfl)
theorem dX2_isLetterByte_6 : decode cX2_isLetterByte 6 = .ok (.iload_n 0, 1) := dk_26 (dk_at dksX2_isLetterByte_0 6 rfl rfl)
theorem dX2_isLetterByte_7 : decode cX2_isLetterByte 7 = .ok (.bipush 122, 2) := dk_16 122 (dk_at dksX2_isLetterByte_0 7 rfl rfl)
theorem dX2_isLetterByte_9 : decode cX2_isLetterByte 9 = .ok (.if_icmp .le 15, 3) := dk_164 0 15 (dk_at dksX2_isLetterByte_0 9 rfl rfl)
theorem dX2_isLetterByte_12 : decode cX2_isLetterByte 12 = .ok (.iload_n 0, 1) := dk_26 (dk_at dksX2_isLetterByte_0 12 rfl rfl)
theorem dX2_isLetterByte_13 : decode cX2_isLetterByte 13 = .ok (.bipush 65, 2) := dk_16 65 (dk_at dksX2_isLetterByte_0 13 rfl rfl)
theorem dX2_isLetterByte_15 : decode cX2_isLetterByte 15 = .ok (.if_icmp .lt 13, 3) := dk_161 0 13 (dk_at dksX2_isLetterByte_0 15 rfl rfl)
theorem dX2_isLetterByte_18 : decode cX2_isLetterByte 18 = .ok (.iload_n 0, 1) := dk_26 (dk_at dksX2_isLetterByte_0 18 rfl rfl)
theorem dX2_isLetterByte_19 : decode cX2_isLetterByte 19 = .ok (.bipush 90, 2) := dk_16 90 (dk_at dksX2_isLetterByte_0 19 rfl rfl)
theorem dX2_isLetterByte_21 : decode cX2_isLetterByte 21 = .ok (.if_icmp .gt 7, 3) := dk_163 0 7 (dk_at dksX2_isLetterByte_0 21 rfl rfl)
theorem dX2_isLetterByte_24 : decode cX2_isLetterByte 24 = .ok (.iconst 1, 1) := dk_4 (dk_at dksX2_isLetterByte_1 0 rfl rfl)
theorem dX2_isLetterByte_25 : decode cX2_isLetterByte 25 = .ok (.goto 4, 3) := dk_167 0 4 (dk_at dksX2_isLetterByte_1 1 rfl rfl)
theorem dX2_isLetterByte_28 : decode cX2_isLetterByte 28 = .ok (.iconst 0, 1) := dk_3 (dk_at dksX2_isLetterByte_1 4 rfl rfl)
theorem dX2_isLetterByte_29 : decode cX2_isLetterByte 29 = .ok (.ireturn, 1) := dk_172 (dk_at dksX2_isLetterByte_1 5 rfl rfl)
abbrev cX2_isSign : ByteArray := prog_20_method_20_code
def yX2_isSign : MethodName := ⟨RX2, "isSign", "(I)Z"⟩
def dkwX2_isSign_2 : List UInt8 := [4, 172, 3, 172]
abbrev dktX2_isSign_2 : List UInt8 := dkwX2_isSign_2 ++ []
def dkwX2_isSign_1 : List UInt8 := [170, 0, 0, 0, 0, 0, 129, 0, 0, 0, 35, 0, 0, 0, 62, 0, 0, 0, 127, 0, 0, 0, 129, 0, 0, 0, 129, 0, 0, 0, 129, 0, 0, 0, 129, 0, 0, 0, 127, 0, 0, 0, 127, 0, 0, 0, 127, 0, 0, 0, 127, 0, 0, 0, 129, 0, 0, 0, 127, 0, 0, 0, 129, 0, 0, 0, 127, 0, 0, 0, 129, 0, 0, 0, 129, 0, 0, 0, 129, 0, 0, 0, 129, 0, 0, 0, 129, 0, 0, 0, 129, 0, 0, 0, 129, 0, 0, 0, 129, 0, 0, 0, 129, 0, 0, 0, 129, 0, 0, 0, 127, 0, 0, 0, 127, 0, 0, 0, 127, 0, 0, 0, 127, 0, 0, 0, 127]
abbrev dktX2_isSign_1 : List UInt8 := dkwX2_isSign_1 ++ dktX2_isSign_2
def dkwX2_isSign_0 : List UInt8 := [26]
abbrev dktX2_isSign_0 : List UInt8 := dkwX2_isSign_0 ++ dktX2_isSign_1
theorem dksX2_isSign_0 : cX2_isSign.data.toList.drop 0 = dktX2_isSign_0 := by decide +kernel
theorem dksX2_isSign_1 : cX2_isSign.data.toList.drop 1 = dktX2_isSign_1 := dk_seg dksX2_isSign_0 1 rfl rfl
theorem dksX2_isSign_2 : cX2_isSign.data.toList.drop 128 = dktX2_isSign_2 := dk_seg dksX2_isSign_1 127 rfl rfl
theorem dX2_isSign_0 : decode cX2_isSign 0 = .ok (.iload_n 0, 1) := dk_26 (dk_at dksX2_isSign_0 0 rfl rfl)
theorem dX2_isSign_1 : decode cX2_isSign 1 = .ok (.tableswitch 129 35 62 #[127, 129, 129, 129, 129, 127, 127, 127, 127, 129, 127, 129, 127, 129, 129, 129, 129, 129, 129, 129, 129, 129, 129, 127, 127, 127, 127, 127], 127) := by decide +kernel
theorem dX2_isSign_128 : decode cX2_isSign 128 = .ok (.iconst 1, 1) := dk_4 (dk_at dksX2_isSign_2 0 rfl rfl)
theorem dX2_isSign_129 : decode cX2_isSign 129 = .ok (.ireturn, 1) := dk_172 (dk_at dksX2_isSign_2 1 rfl rfl)
theorem dX2_isSign_130 : decode cX2_isSign 130 = .ok (.iconst 0, 1) := dk_3 (dk_at dksX2_isSign_2 2 rfl rfl)
theorem dX2_isSign_131 : decode cX2_isSign 131 = .ok (.ireturn, 1) := dk_172 (dk_at dksX2_isSign_2 3 rfl rfl)
abbrev cX2_clause : ByteArray := prog_20_method_50_code
def yX2_clause : MethodName := ⟨RX2, "clause", "()I"⟩
def dkwX2_clause_5 : List UInt8 := [96, 79, 42, 180, 0, 98, 16, 59, 159, 0, 5, 4, 172, 42, 182, 0, 165, 3, 172]
abbrev dktX2_clause_5 : List UInt8 := dkwX2_clause_5 ++ []
def dkwX2_clause_4 : List UInt8 := [182, 0, 239, 54, 4, 21, 4, 153, 0, 6, 21, 4, 172, 42, 180, 0, 16, 42, 180, 0, 136, 92, 46, 4]
abbrev dktX2_clause_4 : List UInt8 := dkwX2_clause_4 ++ dktX2_clause_5
def dkwX2_clause_3 : List UInt8 := [182, 0, 165, 42, 180, 0, 136, 4, 96, 6, 28, 104, 96, 62, 42, 180, 0, 16, 29, 27, 79, 42, 27, 29]
abbrev dktX2_clause_3 : List UInt8 := dkwX2_clause_3 ++ dktX2_clause_4
def dkwX2_clause_2 : List UInt8 := [27, 4, 163, 0, 15, 42, 89, 180, 0, 232, 4, 27, 120, 128, 181, 0, 232, 42, 27, 181, 0, 171, 42]
abbrev dktX2_clause_2 : List UInt8 := dkwX2_clause_2 ++ dktX2_clause_3
def dkwX2_clause_1 : List UInt8 := [153, 0, 5, 7, 172, 42, 180, 0, 16, 42, 180, 0, 136, 46, 61, 28, 16, 24, 160, 0, 6, 16, 6, 172]
abbrev dktX2_clause_1 : List UInt8 := dkwX2_clause_1 ++ dktX2_clause_2
def dkwX2_clause_0 : List UInt8 := [42, 182, 0, 229, 60, 27, 156, 0, 5, 4, 172, 27, 4, 163, 0, 16, 42, 180, 0, 232, 27, 184, 0, 235]
abbrev dktX2_clause_0 : List UInt8 := dkwX2_clause_0 ++ dktX2_clause_1
theorem dksX2_clause_0 : cX2_clause.data.toList.drop 0 = dktX2_clause_0 := by decide +kernel
theorem dksX2_clause_1 : cX2_clause.data.toList.drop 24 = dktX2_clause_1 := dk_seg dksX2_clause_0 24 rfl rfl
theorem dksX2_clause_2 : cX2_clause.data.toList.drop 48 = dktX2_clause_2 := dk_seg dksX2_clause_1 24 rfl rfl
theorem dksX2_clause_3 : cX2_clause.data.toList.drop 71 = dktX2_clause_3 := dk_seg dksX2_clause_2 23 rfl rfl
theorem dksX2_clause_4 : cX2_clause.data.toList.drop 95 = dktX2_clause_4 := dk_seg dksX2_clause_3 24 rfl rfl
theorem dksX2_clause_5 : cX2_clause.data.toList.drop 119 = dktX2_clause_5 := dk_seg dksX2_clause_4 24 rfl rfl
theorem dX2_clause_0 : decode cX2_clause 0 = .ok (.aload_n 0, 1) := dk_42 (dk_at dksX2_clause_0 0 rfl rfl)
theorem dX2_clause_1 : decode cX2_clause 1 = .ok (.invokevirtual 229, 3) := dk_182 0 229 (dk_at dksX2_clause_0 1 rfl rfl)
theorem dX2_clause_4 : decode cX2_clause 4 = .ok (.istore_n 1, 1) := dk_60 (dk_at dksX2_clause_0 4 rfl rfl)
theorem dX2_clause_5 : decode cX2_clause 5 = .ok (.iload_n 1, 1) := dk_27 (dk_at dksX2_clause_0 5 rfl rfl)
theorem dX2_clause_6 : decode cX2_clause 6 = .ok (.ifCond .ge 5, 3) := dk_156 0 5 (dk_at dksX2_clause_0 6 rfl rfl)
theorem dX2_clause_9 : decode cX2_clause 9 = .ok (.iconst 1, 1) := dk_4 (dk_at dksX2_clause_0 9 rfl rfl)
theorem dX2_clause_10 : decode cX2_clause 10 = .ok (.ireturn, 1) := dk_172 (dk_at dksX2_clause_0 10 rfl rfl)
theorem dX2_clause_11 : decode cX2_clause 11 = .ok (.iload_n 1, 1) := dk_27 (dk_at dksX2_clause_0 11 rfl rfl)
theorem dX2_clause_12 : decode cX2_clause 12 = .ok (.iconst 1, 1) := dk_4 (dk_at dksX2_clause_0 12 rfl rfl)
theorem dX2_clause_13 : decode cX2_clause 13 = .ok (.if_icmp .gt 16, 3) := dk_163 0 16 (dk_at dksX2_clause_0 13 rfl rfl)
theorem dX2_clause_16 : decode cX2_clause 16 = .ok (.aload_n 0, 1) := dk_42 (dk_at dksX2_clause_0 16 rfl rfl)
theorem dX2_clause_17 : decode cX2_clause 17 = .ok (.getfield 232, 3) := dk_180 0 232 (dk_at dksX2_clause_0 17 rfl rfl)
theorem dX2_clause_20 : decode cX2_clause 20 = .ok (.iload_n 1, 1) := dk_27 (dk_at dksX2_clause_0 20 rfl rfl)
theorem dX2_clause_21 : decode cX2_clause 21 = .ok (.invokestatic 235, 3) := dk_184 0 235 (dk_at dksX2_clause_0 21 rfl rfl)
theorem dX2_clause_24 : decode cX2_clause 24 = .ok (.ifCond .eq 5, 3) := dk_153 0 5 (dk_at dksX2_clause_1 0 rfl rfl)
theorem dX2_clause_27 : decode cX2_clause 27 = .ok (.iconst 4, 1) := dk_7 (dk_at dksX2_clause_1 3 rfl rfl)
theorem dX2_clause_28 : decode cX2_clause 28 = .ok (.ireturn, 1) := dk_172 (dk_at dksX2_clause_1 4 rfl rfl)
theorem dX2_clause_29 : decode cX2_clause 29 = .ok (.aload_n 0, 1) := dk_42 (dk_at dksX2_clause_1 5 rfl rfl)
theorem dX2_clause_30 : decode cX2_clause 30 = .ok (.getfield 16, 3) := dk_180 0 16 (dk_at dksX2_clause_1 6 rfl rfl)
theorem dX2_clause_33 : decode cX2_clause 33 = .ok (.aload_n 0, 1) := dk_42 (dk_at dksX2_clause_1 9 rfl rfl)
theorem dX2_clause_34 : decode cX2_clause 34 = .ok (.getfield 136, 3) := dk_180 0 136 (dk_at dksX2_clause_1 10 rfl rfl)
theorem dX2_clause_37 : decode cX2_clause 37 = .ok (.iaload, 1) := dk_46 (dk_at dksX2_clause_1 13 rfl rfl)
theorem dX2_clause_38 : decode cX2_clause 38 = .ok (.istore_n 2, 1) := dk_61 (dk_at dksX2_clause_1 14 rfl rfl)
theorem dX2_clause_39 : decode cX2_clause 39 = .ok (.iload_n 2, 1) := dk_28 (dk_at dksX2_clause_1 15 rfl rfl)
theorem dX2_clause_40 : decode cX2_clause 40 = .ok (.bipush 24, 2) := dk_16 24 (dk_at dksX2_clause_1 16 rfl rfl)
theorem dX2_clause_42 : decode cX2_clause 42 = .ok (.if_icmp .ne 6, 3) := dk_160 0 6 (dk_at dksX2_clause_1 18 rfl rfl)
theorem dX2_clause_45 : decode cX2_clause 45 = .ok (.bipush 6, 2) := dk_16 6 (dk_at dksX2_clause_1 21 rfl rfl)
theorem dX2_clause_47 : decode cX2_clause 47 = .ok (.ireturn, 1) := dk_172 (dk_at dksX2_clause_1 23 rfl rfl)
theorem dX2_clause_48 : decode cX2_clause 48 = .ok (.iload_n 1, 1) := dk_27 (dk_at dksX2_clause_2 0 rfl rfl)
theorem dX2_clause_49 : decode cX2_clause 49 = .ok (.iconst 1, 1) := dk_4 (dk_at dksX2_clause_2 1 rfl rfl)
theorem dX2_clause_50 : decode cX2_clause 50 = .ok (.if_icmp .gt 15, 3) := dk_163 0 15 (dk_at dksX2_clause_2 2 rfl rfl)
theorem dX2_clause_53 : decode cX2_clause 53 = .ok (.aload_n 0, 1) := dk_42 (dk_at dksX2_clause_2 5 rfl rfl)
theorem dX2_clause_54 : decode cX2_clause 54 = .ok (.dup, 1) := dk_89 (dk_at dksX2_clause_2 6 rfl rfl)
theorem dX2_clause_55 : decode cX2_clause 55 = .ok (.getfield 232, 3) := dk_180 0 232 (dk_at dksX2_clause_2 7 rfl rfl)
theorem dX2_clause_58 : decode cX2_clause 58 = .ok (.iconst 1, 1) := dk_4 (dk_at dksX2_clause_2 10 rfl rfl)
theorem dX2_clause_59 : decode cX2_clause 59 = .ok (.iload_n 1, 1) := dk_27 (dk_at dksX2_clause_2 11 rfl rfl)
theorem dX2_clause_60 : decode cX2_clause 60 = .ok (.ishl, 1) := dk_120 (dk_at dksX2_clause_2 12 rfl rfl)
theorem dX2_clause_61 : decode cX2_clause 61 = .ok (.ior, 1) := dk_128 (dk_at dksX2_clause_2 13 rfl rfl)
theorem dX2_clause_62 : decode cX2_clause 62 = .ok (.putfield 232, 3) := dk_181 0 232 (dk_at dksX2_clause_2 14 rfl rfl)
theorem dX2_clause_65 : decode cX2_clause 65 = .ok (.aload_n 0, 1) := dk_42 (dk_at dksX2_clause_2 17 rfl rfl)
theorem dX2_clause_66 : decode cX2_clause 66 = .ok (.iload_n 1, 1) := dk_27 (dk_at dksX2_clause_2 18 rfl rfl)
theorem dX2_clause_67 : decode cX2_clause 67 = .ok (.putfield 171, 3) := dk_181 0 171 (dk_at dksX2_clause_2 19 rfl rfl)
theorem dX2_clause_70 : decode cX2_clause 70 = .ok (.aload_n 0, 1) := dk_42 (dk_at dksX2_clause_2 22 rfl rfl)
theorem dX2_clause_71 : decode cX2_clause 71 = .ok (.invokevirtual 165, 3) := dk_182 0 165 (dk_at dksX2_clause_3 0 rfl rfl)
theorem dX2_clause_74 : decode cX2_clause 74 = .ok (.aload_n 0, 1) := dk_42 (dk_at dksX2_clause_3 3 rfl rfl)
theorem dX2_clause_75 : decode cX2_clause 75 = .ok (.getfield 136, 3) := dk_180 0 136 (dk_at dksX2_clause_3 4 rfl rfl)
theorem dX2_clause_78 : decode cX2_clause 78 = .ok (.iconst 1, 1) := dk_4 (dk_at dksX2_clause_3 7 rfl rfl)
theorem dX2_clause_79 : decode cX2_clause 79 = .ok (.iadd, 1) := dk_96 (dk_at dksX2_clause_3 8 rfl rfl)
theorem dX2_clause_80 : decode cX2_clause 80 = .ok (.iconst 3, 1) := dk_6 (dk_at dksX2_clause_3 9 rfl rfl)
theorem dX2_clause_81 : decode cX2_clause 81 = .ok (.iload_n 2, 1) := dk_28 (dk_at dksX2_clause_3 10 rfl rfl)
theorem dX2_clause_82 : decode cX2_clause 82 = .ok (.imul, 1) := dk_104 (dk_at dksX2_clause_3 11 rfl rfl)
theorem dX2_clause_83 : decode cX2_clause 83 = .ok (.iadd, 1) := dk_96 (dk_at dksX2_clause_3 12 rfl rfl)
theorem dX2_clause_84 : decode cX2_clause 84 = .ok (.istore_n 3, 1) := dk_62 (dk_at dksX2_clause_3 13 rfl rfl)
theorem dX2_clause_85 : decode cX2_clause 85 = .ok (.aload_n 0, 1) := dk_42 (dk_at dksX2_clause_3 14 rfl rfl)
theorem dX2_clause_86 : decode cX2_clause 86 = .ok (.getfield 16, 3) := dk_180 0 16 (dk_at dksX2_clause_3 15 rfl rfl)
theorem dX2_clause_89 : decode cX2_clause 89 = .ok (.iload_n 3, 1) := dk_29 (dk_at dksX2_clause_3 18 rfl rfl)
theorem dX2_clause_90 : decode cX2_clause 90 = .ok (.iload_n 1, 1) := dk_27 (dk_at dksX2_clause_3 19 rfl rfl)
theorem dX2_clause_91 : decode cX2_clause 91 = .ok (.iastore, 1) := dk_79 (dk_at dksX2_clause_3 20 rfl rfl)
theorem dX2_clause_92 : decode cX2_clause 92 = .ok (.aload_n 0, 1) := dk_42 (dk_at dksX2_clause_3 21 rfl rfl)
theorem dX2_clause_93 : decode cX2_clause 93 = .ok (.iload_n 1, 1) := dk_27 (dk_at dksX2_clause_3 22 rfl rfl)
theorem dX2_clause_94 : decode cX2_clause 94 = .ok (.iload_n 3, 1) := dk_29 (dk_at dksX2_clause_3 23 rfl rfl)
theorem dX2_clause_95 : decode cX2_clause 95 = .ok (.invokevirtual 239, 3) := dk_182 0 239 (dk_at dksX2_clause_4 0 rfl rfl)
theorem dX2_clause_98 : decode cX2_clause 98 = .ok (.istore 4, 2) := dk_54 4 (dk_at dksX2_clause_4 3 rfl rfl)
theorem dX2_clause_100 : decode cX2_clause 100 = .ok (.iload 4, 2) := dk_21 4 (dk_at dksX2_clause_4 5 rfl rfl)
theorem dX2_clause_102 : decode cX2_clause 102 = .ok (.ifCond .eq 6, 3) := dk_153 0 6 (dk_at dksX2_clause_4 7 rfl rfl)
theorem dX2_clause_105 : decode cX2_clause 105 = .ok (.iload 4, 2) := dk_21 4 (dk_at dksX2_clause_4 10 rfl rfl)
theorem dX2_clause_107 : decode cX2_clause 107 = .ok (.ireturn, 1) := dk_172 (dk_at dksX2_clause_4 12 rfl rfl)
theorem dX2_clause_108 : decode cX2_clause 108 = .ok (.aload_n 0, 1) := dk_42 (dk_at dksX2_clause_4 13 rfl rfl)
theorem dX2_clause_109 : decode cX2_clause 109 = .ok (.getfield 16, 3) := dk_180 0 16 (dk_at dksX2_clause_4 14 rfl rfl)
theorem dX2_clause_112 : decode cX2_clause 112 = .ok (.aload_n 0, 1) := dk_42 (dk_at dksX2_clause_4 17 rfl rfl)
theorem dX2_clause_113 : decode cX2_clause 113 = .ok (.getfield 136, 3) := dk_180 0 136 (dk_at dksX2_clause_4 18 rfl rfl)
theorem dX2_clause_116 : decode cX2_clause 116 = .ok (.dup2, 1) := dk_92 (dk_at dksX2_clause_4 21 rfl rfl)
theorem dX2_clause_117 : decode cX2_clause 117 = .ok (.iaload, 1) := dk_46 (dk_at dksX2_clause_4 22 rfl rfl)
theorem dX2_clause_118 : decode cX2_clause 118 = .ok (.iconst 1, 1) := dk_4 (dk_at dksX2_clause_4 23 rfl rfl)
theorem dX2_clause_119 : decode cX2_clause 119 = .ok (.iadd, 1) := dk_96 (dk_at dksX2_clause_5 0 rfl rfl)
theorem dX2_clause_120 : decode cX2_clause 120 = .ok (.iastore, 1) := dk_79 (dk_at dksX2_clause_5 1 rfl rfl)
theorem dX2_clause_121 : decode cX2_clause 121 = .ok (.aload_n 0, 1) := dk_42 (dk_at dksX2_clause_5 2 rfl rfl)
theorem dX2_clause_122 : decode cX2_clause 122 = .ok (.getfield 98, 3) := dk_180 0 98 (dk_at dksX2_clause_5 3 rfl rfl)
theorem dX2_clause_125 : decode cX2_clause 125 = .ok (.bipush 59, 2) := dk_16 59 (dk_at dksX2_clause_5 6 rfl rfl)
theorem dX2_clause_127 : decode cX2_clause 127 = .ok (.if_icmp .eq 5, 3) := dk_159 0 5 (dk_at dksX2_clause_5 8 rfl rfl)
theorem dX2_clause_130 : decode cX2_clause 130 = .ok (.iconst 1, 1) := dk_4 (dk_at dksX2_clause_5 11 rfl rfl)
theorem dX2_clause_131 : decode cX2_clause 131 = .ok (.ireturn, 1) := dk_172 (dk_at dksX2_clause_5 12 rfl rfl)
theorem dX2_clause_132 : decode cX2_clause 132 = .ok (.aload_n 0, 1) := dk_42 (dk_at dksX2_clause_5 13 rfl rfl)
theorem dX2_clause_133 : decode cX2_clause 133 = .ok (.invokevirtual 165, 3) := dk_182 0 165 (dk_at dksX2_clause_5 14 rfl rfl)
theorem dX2_clause_136 : decode cX2_clause 136 = .ok (.iconst 0, 1) := dk_3 (dk_at dksX2_clause_5 17 rfl rfl)
theorem dX2_clause_137 : decode cX2_clause 137 = .ok (.ireturn, 1) := dk_172 (dk_at dksX2_clause_5 18 rfl rfl)
abbrev cX2_sortOf : ByteArray := prog_20_method_49_code
def yX2_sortOf : MethodName := ⟨RX2, "sortOf", "()I"⟩
def dkwX2_sortOf_7 : List UInt8 := [16, 101, 16, 97, 16, 114, 184, 0, 128, 182, 0, 180, 153, 0, 8, 16, 8, 167, 0, 4, 2, 172]
abbrev dktX2_sortOf_7 : List UInt8 := dkwX2_sortOf_7 ++ []
def dkwX2_sortOf_6 : List UInt8 := [42, 16, 97, 16, 100, 16, 100, 184, 0, 124, 182, 0, 180, 153, 0, 8, 16, 7, 167, 0, 27, 42, 16, 121]
abbrev dktX2_sortOf_6 : List UInt8 := dkwX2_sortOf_6 ++ dktX2_sortOf_7
def dkwX2_sortOf_5 : List UInt8 := [153, 0, 5, 8, 172, 42, 16, 99, 16, 117, 16, 116, 184, 0, 124, 182, 0, 180, 153, 0, 6, 16, 6, 172]
abbrev dktX2_sortOf_5 : List UInt8 := dkwX2_sortOf_5 ++ dktX2_sortOf_6
def dkwX2_sortOf_4 : List UInt8 := [184, 0, 132, 182, 0, 180, 153, 0, 5, 7, 172, 42, 16, 114, 16, 117, 16, 110, 184, 0, 124, 182, 0, 180]
abbrev dktX2_sortOf_4 : List UInt8 := dkwX2_sortOf_4 ++ dktX2_sortOf_5
def dkwX2_sortOf_3 : List UInt8 := [184, 0, 132, 182, 0, 180, 153, 0, 5, 6, 172, 42, 16, 99, 16, 104, 16, 105, 16, 108, 16, 100]
abbrev dktX2_sortOf_3 : List UInt8 := dkwX2_sortOf_3 ++ dktX2_sortOf_4
def dkwX2_sortOf_2 : List UInt8 := [184, 0, 132, 182, 0, 180, 153, 0, 5, 5, 172, 42, 16, 112, 16, 97, 16, 105, 16, 110, 16, 116]
abbrev dktX2_sortOf_2 : List UInt8 := dkwX2_sortOf_2 ++ dktX2_sortOf_3
def dkwX2_sortOf_1 : List UInt8 := [184, 0, 142, 182, 0, 180, 153, 0, 5, 4, 172, 42, 16, 112, 16, 108, 16, 97, 16, 99, 16, 101]
abbrev dktX2_sortOf_1 : List UInt8 := dkwX2_sortOf_1 ++ dktX2_sortOf_2
def dkwX2_sortOf_0 : List UInt8 := [42, 182, 0, 226, 153, 0, 5, 3, 172, 42, 16, 112, 16, 97, 16, 105, 16, 110, 16, 116, 16, 115]
abbrev dktX2_sortOf_0 : List UInt8 := dkwX2_sortOf_0 ++ dktX2_sortOf_1
theorem dksX2_sortOf_0 : cX2_sortOf.data.toList.drop 0 = dktX2_sortOf_0 := by decide +kernel
theorem dksX2_sortOf_1 : cX2_sortOf.data.toList.drop 22 = dktX2_sortOf_1 := dk_seg dksX2_sortOf_0 22 rfl rfl
theorem dksX2_sortOf_2 : cX2_sortOf.data.toList.drop 44 = dktX2_sortOf_2 := dk_seg dksX2_sortOf_1 22 rfl rfl
theorem dksX2_sortOf_3 : cX2_sortOf.data.toList.drop 66 = dktX2_sortOf_3 := dk_seg dksX2_sortOf_2 22 rfl rfl
theorem dksX2_sortOf_4 : cX2_sortOf.data.toList.drop 88 = dktX2_sortOf_4 := dk_seg dksX2_sortOf_3 22 rfl rfl
theorem dksX2_sortOf_5 : cX2_sortOf.data.toList.drop 112 = dktX2_sortOf_5 := dk_seg dksX2_sortOf_4 24 rfl rfl
theorem dksX2_sortOf_6 : cX2_sortOf.data.toList.drop 136 = dktX2_sortOf_6 := dk_seg dksX2_sortOf_5 24 rfl rfl
theorem dksX2_sortOf_7 : cX2_sortOf.data.toList.drop 160 = dktX2_sortOf_7 := dk_seg dksX2_sortOf_6 24 rfl rfl
theorem dX2_sortOf_0 : decode cX2_sortOf 0 = .ok (.aload_n 0, 1) := dk_42 (dk_at dksX2_sortOf_0 0 rfl rfl)
theorem dX2_sortOf_1 : decode cX2_sortOf 1 = .ok (.invokevirtual 226, 3) := dk_182 0 226 (dk_at dksX2_sortOf_0 1 rfl rfl)
theorem dX2_sortOf_4 : decode cX2_sortOf 4 = .ok (.ifCond .eq 5, 3) := dk_153 0 5 (dk_at dksX2_sortOf_0 4 rfl rfl)
theorem dX2_sortOf_7 : decode cX2_sortOf 7 = .ok (.iconst 0, 1) := dk_3 (dk_at dksX2_sortOf_0 7 rfl rfl)
theorem dX2_sortOf_8 : decode cX2_sortOf 8 = .ok (.ireturn, 1) := dk_172 (dk_at dksX2_sortOf_0 8 rfl rfl)
theorem dX2_sortOf_9 : decode cX2_sortOf 9 = .ok (.aload_n 0, 1) := dk_42 (dk_at dksX2_sortOf_0 9 rfl rfl)
theorem dX2_sortOf_10 : decode cX2_sortOf 10 = .ok (.bipush 112, 2) := dk_16 112 (dk_at dksX2_sortOf_0 10 rfl rfl)
theorem dX2_sortOf_12 : decode cX2_sortOf 12 = .ok (.bipush 97, 2) := dk_16 97 (dk_at dksX2_sortOf_0 12 rfl rfl)
theorem dX2_sortOf_14 : decode cX2_sortOf 14 = .ok (.bipush 105, 2) := dk_16 105 (dk_at dksX2_sortOf_0 14 rfl rfl)
theorem dX2_sortOf_16 : decode cX2_sortOf 16 = .ok (.bipush 110, 2) := dk_16 110 (dk_at dksX2_sortOf_0 16 rfl rfl)
theorem dX2_sortOf_18 : decode cX2_sortOf 18 = .ok (.bipush 116, 2) := dk_16 116 (dk_at dksX2_sortOf_0 18 rfl rfl)
theorem dX2_sortOf_20 : decode cX2_sortOf 20 = .ok (.bipush 115, 2) := dk_16 115 (dk_at dksX2_sortOf_0 20 rfl rfl)
theorem dX2_sortOf_22 : decode cX2_sortOf 22 = .ok (.invokestatic 142, 3) := dk_184 0 142 (dk_at dksX2_sortOf_1 0 rfl rfl)
theorem dX2_sortOf_25 : decode cX2_sortOf 25 = .ok (.invokevirtual 180, 3) := dk_182 0 180 (dk_at dksX2_sortOf_1 3 rfl rfl)
theorem dX2_sortOf_28 : decode cX2_sortOf 28 = .ok (.ifCond .eq 5, 3) := dk_153 0 5 (dk_at dksX2_sortOf_1 6 rfl rfl)
theorem dX2_sortOf_31 : decode cX2_sortOf 31 = .ok (.iconst 1, 1) := dk_4 (dk_at dksX2_sortOf_1 9 rfl rfl)
theorem dX2_sortOf_32 : decode cX2_sortOf 32 = .ok (.ireturn, 1) := dk_172 (dk_at dksX2_sortOf_1 10 rfl rfl)
theorem dX2_sortOf_33 : decode cX2_sortOf 33 = .ok (.aload_n 0, 1) := dk_42 (dk_at dksX2_sortOf_1 11 rfl rfl)
theorem dX2_sortOf_34 : decode cX2_sortOf 34 = .ok (.bipush 112, 2) := dk_16 112 (dk_at dksX2_sortOf_1 12 rfl rfl)
theorem dX2_sortOf_36 : decode cX2_sortOf 36 = .ok (.bipush 108, 2) := dk_16 108 (dk_at dksX2_sortOf_1 14 rfl rfl)
theorem dX2_sortOf_38 : decode cX2_sortOf 38 = .ok (.bipush 97, 2) := dk_16 97 (dk_at dksX2_sortOf_1 16 rfl rfl)
theorem dX2_sortOf_40 : decode cX2_sortOf 40 = .ok (.bipush 99, 2) := dk_16 99 (dk_at dksX2_sortOf_1 18 rfl rfl)
theorem dX2_sortOf_42 : decode cX2_sortOf 42 = .ok (.bipush 101, 2) := dk_16 101 (dk_at dksX2_sortOf_1 20 rfl rfl)
theorem dX2_sortOf_44 : decode cX2_sortOf 44 = .ok (.invokestatic 132, 3) := dk_184 0 132 (dk_at dksX2_sortOf_2 0 rfl rfl)
theorem dX2_sortOf_47 : decode cX2_sortOf 47 = .ok (.invokevirtual 180, 3) := dk_182 0 180 (dk_at dksX2_sortOf_2 3 rfl rfl)
theorem dX2_sortOf_50 : decode cX2_sortOf 50 = .ok (.ifCond .eq 5, 3) := dk_153 0 5 (dk_at dksX2_sortOf_2 6 rfl rfl)
theorem dX2_sortOf_53 : decode cX2_sortOf 53 = .ok (.iconst 2, 1) := dk_5 (dk_at dksX2_sortOf_2 9 rfl rfl)
theorem dX2_sortOf_54 : decode cX2_sortOf 54 = .ok (.ireturn, 1) := dk_172 (dk_at dksX2_sortOf_2 10 rfl rfl)
theorem dX2_sortOf_55 : decode cX2_sortOf 55 = .ok (.aload_n 0, 1) := dk_42 (dk_at dksX2_sortOf_2 11 rfl rfl)
theorem dX2_sortOf_56 : decode cX2_sortOf 56 = .ok (.bipush 112, 2) := dk_16 112 (dk_at dksX2_sortOf_2 12 rfl rfl)
theorem dX2_sortOf_58 : decode cX2_sortOf 58 = .ok (.bipush 97, 2) := dk_16 97 (dk_at dksX2_sortOf_2 14 rfl rfl)
theorem dX2_sortOf_60 : decode cX2_sortOf 60 = .ok (.bipush 105, 2) := dk_16 105 (dk_at dksX2_sortOf_2 16 rfl rfl)
theorem dX2_sortOf_62 : decode cX2_sortOf 62 = .ok (.bipush 110, 2) := dk_16 110 (dk_at dksX2_sortOf_2 18 rfl rfl)
theorem dX2_sortOf_64 : decode cX2_sortOf 64 = .ok (.bipush 116, 2) := dk_16 116 (dk_at dksX2_sortOf_2 20 rfl rfl)
theorem dX2_sortOf_66 : decode cX2_sortOf 66 = .ok (.invokestatic 132, 3) := dk_184 0 132 (dk_at dksX2_sortOf_3 0 rfl rfl)
theorem dX2_sortOf_69 : decode cX2_sortOf 69 = .ok (.invokevirtual 180, 3) := dk_182 0 180 (dk_at dksX2_sortOf_3 3 rfl rfl)
theorem dX2_sortOf_72 : decode cX2_sortOf 72 = .ok (.ifCond .eq 5, 3) := dk_153 0 5 (dk_at dksX2_sortOf_3 6 rfl rfl)
theorem dX2_sortOf_75 : decode cX2_sortOf 75 = .ok (.iconst 3, 1) := dk_6 (dk_at dksX2_sortOf_3 9 rfl rfl)
theorem dX2_sortOf_76 : decode cX2_sortOf 76 = .ok (.ireturn, 1) := dk_172 (dk_at dksX2_sortOf_3 10 rfl rfl)
theorem dX2_sortOf_77 : decode cX2_sortOf 77 = .ok (.aload_n 0, 1) := dk_42 (dk_at dksX2_sortOf_3 11 rfl rfl)
theorem dX2_sortOf_78 : decode cX2_sortOf 78 = .ok (.bipush 99, 2) := dk_16 99 (dk_at dksX2_sortOf_3 12 rfl rfl)
theorem dX2_sortOf_80 : decode cX2_sortOf 80 = .ok (.bipush 104, 2) := dk_16 104 (dk_at dksX2_sortOf_3 14 rfl rfl)
theorem dX2_sortOf_82 : decode cX2_sortOf 82 = .ok (.bipush 105, 2) := dk_16 105 (dk_at dksX2_sortOf_3 16 rfl rfl)
theorem dX2_sortOf_84 : decode cX2_sortOf 84 = .ok (.bipush 108, 2) := dk_16 108 (dk_at dksX2_sortOf_3 18 rfl rfl)
theorem dX2_sortOf_86 : decode cX2_sortOf 86 = .ok (.bipush 100, 2) := dk_16 100 (dk_at dksX2_sortOf_3 20 rfl rfl)
theorem dX2_sortOf_88 : decode cX2_sortOf 88 = .ok (.invokestatic 132, 3) := dk_184 0 132 (dk_at dksX2_sortOf_4 0 rfl rfl)
theorem dX2_sortOf_91 : decode cX2_sortOf 91 = .ok (.invokevirtual 180, 3) := dk_182 0 180 (dk_at dksX2_sortOf_4 3 rfl rfl)
theorem dX2_sortOf_94 : decode cX2_sortOf 94 = .ok (.ifCond .eq 5, 3) := dk_153 0 5 (dk_at dksX2_sortOf_4 6 rfl rfl)
theorem dX2_sortOf_97 : decode cX2_sortOf 97 = .ok (.iconst 4, 1) := dk_7 (dk_at dksX2_sortOf_4 9 rfl rfl)
theorem dX2_sortOf_98 : decode cX2_sortOf 98 = .ok (.ireturn, 1) := dk_172 (dk_at dksX2_sortOf_4 10 rfl rfl)
theorem dX2_sortOf_99 : decode cX2_sortOf 99 = .ok (.aload_n 0, 1) := dk_42 (dk_at dksX2_sortOf_4 11 rfl rfl)
theorem dX2_sortOf_100 : decode cX2_sortOf 100 = .ok (.bipush 114, 2) := dk_16 114 (dk_at dksX2_sortOf_4 12 rfl rfl)
theorem dX2_sortOf_102 : decode cX2_sortOf 102 = .ok (.bipush 117, 2) := dk_16 117 (dk_at dksX2_sortOf_4 14 rfl rfl)
theorem dX2_sortOf_104 : decode cX2_sortOf 104 = .ok (.bipush 110, 2) := dk_16 110 (dk_at dksX2_sortOf_4 16 rfl rfl)
theorem dX2_sortOf_106 : decode cX2_sortOf 106 = .ok (.invokestatic 124, 3) := dk_184 0 124 (dk_at dksX2_sortOf_4 18 rfl rfl)
theorem dX2_sortOf_109 : decode cX2_sortOf 109 = .ok (.invokevirtual 180, 3) := dk_182 0 180 (dk_at dksX2_sortOf_4 21 rfl rfl)
theorem dX2_sortOf_112 : decode cX2_sortOf 112 = .ok (.ifCond .eq 5, 3) := dk_153 0 5 (dk_at dksX2_sortOf_5 0 rfl rfl)
theorem dX2_sortOf_115 : decode cX2_sortOf 115 = .ok (.iconst 5, 1) := dk_8 (dk_at dksX2_sortOf_5 3 rfl rfl)
theorem dX2_sortOf_116 : decode cX2_sortOf 116 = .ok (.ireturn, 1) := dk_172 (dk_at dksX2_sortOf_5 4 rfl rfl)
theorem dX2_sortOf_117 : decode cX2_sortOf 117 = .ok (.aload_n 0, 1) := dk_42 (dk_at dksX2_sortOf_5 5 rfl rfl)
theorem dX2_sortOf_118 : decode cX2_sortOf 118 = .ok (.bipush 99, 2) := dk_16 99 (dk_at dksX2_sortOf_5 6 rfl rfl)
theorem dX2_sortOf_120 : decode cX2_sortOf 120 = .ok (.bipush 117, 2) := dk_16 117 (dk_at dksX2_sortOf_5 8 rfl rfl)
theorem dX2_sortOf_122 : decode cX2_sortOf 122 = .ok (.bipush 116, 2) := dk_16 116 (dk_at dksX2_sortOf_5 10 rfl rfl)
theorem dX2_sortOf_124 : decode cX2_sortOf 124 = .ok (.invokestatic 124, 3) := dk_184 0 124 (dk_at dksX2_sortOf_5 12 rfl rfl)
theorem dX2_sortOf_127 : decode cX2_sortOf 127 = .ok (.invokevirtual 180, 3) := dk_182 0 180 (dk_at dksX2_sortOf_5 15 rfl rfl)
theorem dX2_sortOf_130 : decode cX2_sortOf 130 = .ok (.ifCond .eq 6, 3) := dk_153 0 6 (dk_at dksX2_sortOf_5 18 rfl rfl)
theorem dX2_sortOf_133 : decode cX2_sortOf 133 = .ok (.bipush 6, 2) := dk_16 6 (dk_at dksX2_sortOf_5 21 rfl rfl)
theorem dX2_sortOf_135 : decode cX2_sortOf 135 = .ok (.ireturn, 1) := dk_172 (dk_at dksX2_sortOf_5 23 rfl rfl)
theorem dX2_sortOf_136 : decode cX2_sortOf 136 = .ok (.aload_n 0, 1) := dk_42 (dk_at dksX2_sortOf_6 0 rfl rfl)
theorem dX2_sortOf_137 : decode cX2_sortOf 137 = .ok (.bipush 97, 2) := dk_16 97 (dk_at dksX2_sortOf_6 1 rfl rfl)
theorem dX2_sortOf_139 : decode cX2_sortOf 139 = .ok (.bipush 100, 2) := dk_16 100 (dk_at dksX2_sortOf_6 3 rfl rfl)
theorem dX2_sortOf_141 : decode cX2_sortOf 141 = .ok (.bipush 100, 2) := dk_16 100 (dk_at dksX2_sortOf_6 5 rfl rfl)
theorem dX2_sortOf_143 : decode cX2_sortOf 143 = .ok (.invokestatic 124, 3) := dk_184 0 124 (dk_at dksX2_sortOf_6 7 rfl rfl)
theorem dX2_sortOf_146 : decode cX2_sortOf 146 = .ok (.invokevirtual 180, 3) := dk_182 0 180 (dk_at dksX2_sortOf_6 10 rfl rfl)
theorem dX2_sortOf_149 : decode cX2_sortOf 149 = .ok (.ifCond .eq 8, 3) := dk_153 0 8 (dk_at dksX2_sortOf_6 13 rfl rfl)
theorem dX2_sortOf_152 : decode cX2_sortOf 152 = .ok (.bipush 7, 2) := dk_16 7 (dk_at dksX2_sortOf_6 16 rfl rfl)
theorem dX2_sortOf_154 : decode cX2_sortOf 154 = .ok (.goto 27, 3) := dk_167 0 27 (dk_at dksX2_sortOf_6 18 rfl rfl)
theorem dX2_sortOf_157 : decode cX2_sortOf 157 = .ok (.aload_n 0, 1) := dk_42 (dk_at dksX2_sortOf_6 21 rfl rfl)
theorem dX2_sortOf_158 : decode cX2_sortOf 158 = .ok (.bipush 121, 2) := dk_16 121 (dk_at dksX2_sortOf_6 22 rfl rfl)
theorem dX2_sortOf_160 : decode cX2_sortOf 160 = .ok (.bipush 101, 2) := dk_16 101 (dk_at dksX2_sortOf_7 0 rfl rfl)
theorem dX2_sortOf_162 : decode cX2_sortOf 162 = .ok (.bipush 97, 2) := dk_16 97 (dk_at dksX2_sortOf_7 2 rfl rfl)
theorem dX2_sortOf_164 : decode cX2_sortOf 164 = .ok (.bipush 114, 2) := dk_16 114 (dk_at dksX2_sortOf_7 4 rfl rfl)
theorem dX2_sortOf_166 : decode cX2_sortOf 166 = .ok (.invokestatic 128, 3) := dk_184 0 128 (dk_at dksX2_sortOf_7 6 rfl rfl)
theorem dX2_sortOf_169 : decode cX2_sortOf 169 = .ok (.invokevirtual 180, 3) := dk_182 0 180 (dk_at dksX2_sortOf_7 9 rfl rfl)
theorem dX2_sortOf_172 : decode cX2_sortOf 172 = .ok (.ifCond .eq 8, 3) := dk_153 0 8 (dk_at dksX2_sortOf_7 12 rfl rfl)
theorem dX2_sortOf_175 : decode cX2_sortOf 175 = .ok (.bipush 8, 2) := dk_16 8 (dk_at dksX2_sortOf_7 15 rfl rfl)
theorem dX2_sortOf_177 : decode cX2_sortOf 177 = .ok (.goto 4, 3) := dk_167 0 4 (dk_at dksX2_sortOf_7 17 rfl rfl)
theorem dX2_sortOf_180 : decode cX2_sortOf 180 = .ok (.iconst (-1), 1) := dk_2 (dk_at dksX2_sortOf_7 20 rfl rfl)
theorem dX2_sortOf_181 : decode cX2_sortOf 181 = .ok (.ireturn, 1) := dk_172 (dk_at dksX2_sortOf_7 21 rfl rfl)
abbrev cX2_isCatches : ByteArray := prog_20_method_29_code
def yX2_isCatches : MethodName := ⟨RX2, "isCatches", "()Z"⟩
def dkwX2_isCatches_5 : List UInt8 := [184, 0, 124, 148, 154, 0, 7, 4, 167, 0, 4, 3, 172]
abbrev dktX2_isCatches_5 : List UInt8 := dkwX2_isCatches_5 ++ []
def dkwX2_isCatches_4 : List UInt8 := [182, 0, 91, 42, 42, 180, 0, 95, 16, 6, 96, 182, 0, 91, 184, 0, 124, 16, 104, 16, 101, 16, 115]
abbrev dktX2_isCatches_4 : List UInt8 := dkwX2_isCatches_4 ++ dktX2_isCatches_5
def dkwX2_isCatches_3 : List UInt8 := [184, 0, 128, 148, 154, 0, 54, 42, 42, 180, 0, 95, 7, 96, 182, 0, 91, 42, 42, 180, 0, 95, 8, 96]
abbrev dktX2_isCatches_3 : List UInt8 := dkwX2_isCatches_3 ++ dktX2_isCatches_4
def dkwX2_isCatches_2 : List UInt8 := [182, 0, 91, 42, 42, 180, 0, 95, 6, 96, 182, 0, 91, 184, 0, 128, 16, 99, 16, 97, 16, 116, 16, 99]
abbrev dktX2_isCatches_2 : List UInt8 := dkwX2_isCatches_2 ++ dktX2_isCatches_3
def dkwX2_isCatches_1 : List UInt8 := [180, 0, 95, 182, 0, 91, 42, 42, 180, 0, 95, 4, 96, 182, 0, 91, 42, 42, 180, 0, 95, 5, 96]
abbrev dktX2_isCatches_1 : List UInt8 := dkwX2_isCatches_1 ++ dktX2_isCatches_2
def dkwX2_isCatches_0 : List UInt8 := [42, 180, 0, 98, 5, 160, 0, 124, 42, 180, 0, 88, 42, 180, 0, 95, 100, 16, 7, 160, 0, 110, 42, 42]
abbrev dktX2_isCatches_0 : List UInt8 := dkwX2_isCatches_0 ++ dktX2_isCatches_1
theorem dksX2_isCatches_0 : cX2_isCatches.data.toList.drop 0 = dktX2_isCatches_0 := by decide +kernel
theorem dksX2_isCatches_1 : cX2_isCatches.data.toList.drop 24 = dktX2_isCatches_1 := dk_seg dksX2_isCatches_0 24 rfl rfl
theorem dksX2_isCatches_2 : cX2_isCatches.data.toList.drop 47 = dktX2_isCatches_2 := dk_seg dksX2_isCatches_1 23 rfl rfl
theorem dksX2_isCatches_3 : cX2_isCatches.data.toList.drop 71 = dktX2_isCatches_3 := dk_seg dksX2_isCatches_2 24 rfl rfl
theorem dksX2_isCatches_4 : cX2_isCatches.data.toList.drop 95 = dktX2_isCatches_4 := dk_seg dksX2_isCatches_3 24 rfl rfl
theorem dksX2_isCatches_5 : cX2_isCatches.data.toList.drop 118 = dktX2_isCatches_5 := dk_seg dksX2_isCatches_4 23 rfl rfl
theorem dX2_isCatches_0 : decode cX2_isCatches 0 = .ok (.aload_n 0, 1) := dk_42 (dk_at dksX2_isCatches_0 0 rfl rfl)
theorem dX2_isCatches_1 : decode cX2_isCatches 1 = .ok (.getfield 98, 3) := dk_180 0 98 (dk_at dksX2_isCatches_0 1 rfl rfl)
theorem dX2_isCatches_4 : decode cX2_isCatches 4 = .ok (.iconst 2, 1) := dk_5 (dk_at dksX2_isCatches_0 4 rfl rfl)
theorem dX2_isCatches_5 : decode cX2_isCatches 5 = .ok (.if_icmp .ne 124, 3) := dk_160 0 124 (dk_at dksX2_isCatches_0 5 rfl rfl)
theorem dX2_isCatches_8 : decode cX2_isCatches 8 = .ok (.aload_n 0, 1) := dk_42 (dk_at dksX2_isCatches_0 8 rfl rfl)
theorem dX2_isCatches_9 : decode cX2_isCatches 9 = .ok (.getfield 88, 3) := dk_180 0 88 (dk_at dksX2_isCatches_0 9 rfl rfl)
theorem dX2_isCatches_12 : decode cX2_isCatches 12 = .ok (.aload_n 0, 1) := dk_42 (dk_at dksX2_isCatches_0 12 rfl rfl)
theorem dX2_isCatches_13 : decode cX2_isCatches 13 = .ok (.getfield 95, 3) := dk_180 0 95 (dk_at dksX2_isCatches_0 13 rfl rfl)
theorem dX2_isCatches_16 : decode cX2_isCatches 16 = .ok (.isub, 1) := dk_100 (dk_at dksX2_isCatches_0 16 rfl rfl)
theorem dX2_isCatches_17 : decode cX2_isCatches 17 = .ok (.bipush 7, 2) := dk_16 7 (dk_at dksX2_isCatches_0 17 rfl rfl)
theorem dX2_isCatches_19 : decode cX2_isCatches 19 = .ok (.if_icmp .ne 110, 3) := dk_160 0 110 (dk_at dksX2_isCatches_0 19 rfl rfl)
theorem dX2_isCatches_22 : decode cX2_isCatches 22 = .ok (.aload_n 0, 1) := dk_42 (dk_at dksX2_isCatches_0 22 rfl rfl)
theorem dX2_isCatches_23 : decode cX2_isCatches 23 = .ok (.aload_n 0, 1) := dk_42 (dk_at dksX2_isCatches_0 23 rfl rfl)
theorem dX2_isCatches_24 : decode cX2_isCatches 24 = .ok (.getfield 95, 3) := dk_180 0 95 (dk_at dksX2_isCatches_1 0 rfl rfl)
theorem dX2_isCatches_27 : decode cX2_isCatches 27 = .ok (.invokevirtual 91, 3) := dk_182 0 91 (dk_at dksX2_isCatches_1 3 rfl rfl)
theorem dX2_isCatches_30 : decode cX2_isCatches 30 = .ok (.aload_n 0, 1) := dk_42 (dk_at dksX2_isCatches_1 6 rfl rfl)
theorem dX2_isCatches_31 : decode cX2_isCatches 31 = .ok (.aload_n 0, 1) := dk_42 (dk_at dksX2_isCatches_1 7 rfl rfl)
theorem dX2_isCatches_32 : decode cX2_isCatches 32 = .ok (.getfield 95, 3) := dk_180 0 95 (dk_at dksX2_isCatches_1 8 rfl rfl)
theorem dX2_isCatches_35 : decode cX2_isCatches 35 = .ok (.iconst 1, 1) := dk_4 (dk_at dksX2_isCatches_1 11 rfl rfl)
theorem dX2_isCatches_36 : decode cX2_isCatches 36 = .ok (.iadd, 1) := dk_96 (dk_at dksX2_isCatches_1 12 rfl rfl)
theorem dX2_isCatches_37 : decode cX2_isCatches 37 = .ok (.invokevirtual 91, 3) := dk_182 0 91 (dk_at dksX2_isCatches_1 13 rfl rfl)
theorem dX2_isCatches_40 : decode cX2_isCatches 40 = .ok (.aload_n 0, 1) := dk_42 (dk_at dksX2_isCatches_1 16 rfl rfl)
theorem dX2_isCatches_41 : decode cX2_isCatches 41 = .ok (.aload_n 0, 1) := dk_42 (dk_at dksX2_isCatches_1 17 rfl rfl)
theorem dX2_isCatches_42 : decode cX2_isCatches 42 = .ok (.getfield 95, 3) := dk_180 0 95 (dk_at dksX2_isCatches_1 18 rfl rfl)
theorem dX2_isCatches_45 : decode cX2_isCatches 45 = .ok (.iconst 2, 1) := dk_5 (dk_at dksX2_isCatches_1 21 rfl rfl)
theorem dX2_isCatches_46 : decode cX2_isCatches 46 = .ok (.iadd, 1) := dk_96 (dk_at dksX2_isCatches_1 22 rfl rfl)
theorem dX2_isCatches_47 : decode cX2_isCatches 47 = .ok (.invokevirtual 91, 3) := dk_182 0 91 (dk_at dksX2_isCatches_2 0 rfl rfl)
theorem dX2_isCatches_50 : decode cX2_isCatches 50 = .ok (.aload_n 0, 1) := dk_42 (dk_at dksX2_isCatches_2 3 rfl rfl)
theorem dX2_isCatches_51 : decode cX2_isCatches 51 = .ok (.aload_n 0, 1) := dk_42 (dk_at dksX2_isCatches_2 4 rfl rfl)
theorem dX2_isCatches_52 : decode cX2_isCatches 52 = .ok (.getfield 95, 3) := dk_180 0 95 (dk_at dksX2_isCatches_2 5 rfl rfl)
theorem dX2_isCatches_55 : decode cX2_isCatches 55 = .ok (.iconst 3, 1) := dk_6 (dk_at dksX2_isCatches_2 8 rfl rfl)
theorem dX2_isCatches_56 : decode cX2_isCatches 56 = .ok (.iadd, 1) := dk_96 (dk_at dksX2_isCatches_2 9 rfl rfl)
theorem dX2_isCatches_57 : decode cX2_isCatches 57 = .ok (.invokevirtual 91, 3) := dk_182 0 91 (dk_at dksX2_isCatches_2 10 rfl rfl)
theorem dX2_isCatches_60 : decode cX2_isCatches 60 = .ok (.invokestatic 128, 3) := dk_184 0 128 (dk_at dksX2_isCatches_2 13 rfl rfl)
theorem dX2_isCatches_63 : decode cX2_isCatches 63 = .ok (.bipush 99, 2) := dk_16 99 (dk_at dksX2_isCatches_2 16 rfl rfl)
theorem dX2_isCatches_65 : decode cX2_isCatches 65 = .ok (.bipush 97, 2) := dk_16 97 (dk_at dksX2_isCatches_2 18 rfl rfl)
theorem dX2_isCatches_67 : decode cX2_isCatches 67 = .ok (.bipush 116, 2) := dk_16 116 (dk_at dksX2_isCatches_2 20 rfl rfl)
theorem dX2_isCatches_69 : decode cX2_isCatches 69 = .ok (.bipush 99, 2) := dk_16 99 (dk_at dksX2_isCatches_2 22 rfl rfl)
theorem dX2_isCatches_71 : decode cX2_isCatches 71 = .ok (.invokestatic 128, 3) := dk_184 0 128 (dk_at dksX2_isCatches_3 0 rfl rfl)
theorem dX2_isCatches_74 : decode cX2_isCatches 74 = .ok (.lcmp, 1) := dk_148 (dk_at dksX2_isCatches_3 3 rfl rfl)
theorem dX2_isCatches_75 : decode cX2_isCatches 75 = .ok (.ifCond .ne 54, 3) := dk_154 0 54 (dk_at dksX2_isCatches_3 4 rfl rfl)
theorem dX2_isCatches_78 : decode cX2_isCatches 78 = .ok (.aload_n 0, 1) := dk_42 (dk_at dksX2_isCatches_3 7 rfl rfl)
theorem dX2_isCatches_79 : decode cX2_isCatches 79 = .ok (.aload_n 0, 1) := dk_42 (dk_at dksX2_isCatches_3 8 rfl rfl)
theorem dX2_isCatches_80 : decode cX2_isCatches 80 = .ok (.getfield 95, 3) := dk_180 0 95 (dk_at dksX2_isCatches_3 9 rfl rfl)
theorem dX2_isCatches_83 : decode cX2_isCatches 83 = .ok (.iconst 4, 1) := dk_7 (dk_at dksX2_isCatches_3 12 rfl rfl)
theorem dX2_isCatches_84 : decode cX2_isCatches 84 = .ok (.iadd, 1) := dk_96 (dk_at dksX2_isCatches_3 13 rfl rfl)
theorem dX2_isCatches_85 : decode cX2_isCatches 85 = .ok (.invokevirtual 91, 3) := dk_182 0 91 (dk_at dksX2_isCatches_3 14 rfl rfl)
theorem dX2_isCatches_88 : decode cX2_isCatches 88 = .ok (.aload_n 0, 1) := dk_42 (dk_at dksX2_isCatches_3 17 rfl rfl)
theorem dX2_isCatches_89 : decode cX2_isCatches 89 = .ok (.aload_n 0, 1) := dk_42 (dk_at dksX2_isCatches_3 18 rfl rfl)
theorem dX2_isCatches_90 : decode cX2_isCatches 90 = .ok (.getfield 95, 3) := dk_180 0 95 (dk_at dksX2_isCatches_3 19 rfl rfl)
theorem dX2_isCatches_93 : decode cX2_isCatches 93 = .ok (.iconst 5, 1) := dk_8 (dk_at dksX2_isCatches_3 22 rfl rfl)
theorem dX2_isCatches_94 : decode cX2_isCatches 94 = .ok (.iadd, 1) := dk_96 (dk_at dksX2_isCatches_3 23 rfl rfl)
theorem dX2_isCatches_95 : decode cX2_isCatches 95 = .ok (.invokevirtual 91, 3) := dk_182 0 91 (dk_at dksX2_isCatches_4 0 rfl rfl)
theorem dX2_isCatches_98 : decode cX2_isCatches 98 = .ok (.aload_n 0, 1) := dk_42 (dk_at dksX2_isCatches_4 3 rfl rfl)
theorem dX2_isCatches_99 : decode cX2_isCatches 99 = .ok (.aload_n 0, 1) := dk_42 (dk_at dksX2_isCatches_4 4 rfl rfl)
theorem dX2_isCatches_100 : decode cX2_isCatches 100 = .ok (.getfield 95, 3) := dk_180 0 95 (dk_at dksX2_isCatches_4 5 rfl rfl)
theorem dX2_isCatches_103 : decode cX2_isCatches 103 = .ok (.bipush 6, 2) := dk_16 6 (dk_at dksX2_isCatches_4 8 rfl rfl)
theorem dX2_isCatches_105 : decode cX2_isCatches 105 = .ok (.iadd, 1) := dk_96 (dk_at dksX2_isCatches_4 10 rfl rfl)
theorem dX2_isCatches_106 : decode cX2_isCatches 106 = .ok (.invokevirtual 91, 3) := dk_182 0 91 (dk_at dksX2_isCatches_4 11 rfl rfl)
theorem dX2_isCatches_109 : decode cX2_isCatches 109 = .ok (.invokestatic 124, 3) := dk_184 0 124 (dk_at dksX2_isCatches_4 14 rfl rfl)
theorem dX2_isCatches_112 : decode cX2_isCatches 112 = .ok (.bipush 104, 2) := dk_16 104 (dk_at dksX2_isCatches_4 17 rfl rfl)
theorem dX2_isCatches_114 : decode cX2_isCatches 114 = .ok (.bipush 101, 2) := dk_16 101 (dk_at dksX2_isCatches_4 19 rfl rfl)
theorem dX2_isCatches_116 : decode cX2_isCatches 116 = .ok (.bipush 115, 2) := dk_16 115 (dk_at dksX2_isCatches_4 21 rfl rfl)
theorem dX2_isCatches_118 : decode cX2_isCatches 118 = .ok (.invokestatic 124, 3) := dk_184 0 124 (dk_at dksX2_isCatches_5 0 rfl rfl)
theorem dX2_isCatches_121 : decode cX2_isCatches 121 = .ok (.lcmp, 1) := dk_148 (dk_at dksX2_isCatches_5 3 rfl rfl)
theorem dX2_isCatches_122 : decode cX2_isCatches 122 = .ok (.ifCond .ne 7, 3) := dk_154 0 7 (dk_at dksX2_isCatches_5 4 rfl rfl)
theorem dX2_isCatches_125 : decode cX2_isCatches 125 = .ok (.iconst 1, 1) := dk_4 (dk_at dksX2_isCatches_5 7 rfl rfl)
theorem dX2_isCatches_126 : decode cX2_isCatches 126 = .ok (.goto 4, 3) := dk_167 0 4 (dk_at dksX2_isCatches_5 8 rfl rfl)
theorem dX2_isCatches_129 : decode cX2_isCatches 129 = .ok (.iconst 0, 1) := dk_3 (dk_at dksX2_isCatches_5 11 rfl rfl)
theorem dX2_isCatches_130 : decode cX2_isCatches 130 = .ok (.ireturn, 1) := dk_172 (dk_at dksX2_isCatches_5 12 rfl rfl)
abbrev cX2_w4 : ByteArray := prog_20_method_24_code
def yX2_w4 : MethodName := ⟨RX2, "w4", "(IIII)J"⟩
def dkwX2_w4_0 : List UInt8 := [26, 27, 28, 184, 0, 124, 16, 8, 121, 29, 133, 129, 173]
abbrev dktX2_w4_0 : List UInt8 := dkwX2_w4_0 ++ []
theorem dksX2_w4_0 : cX2_w4.data.toList.drop 0 = dktX2_w4_0 := by decide +kernel
theorem dX2_w4_0 : decode cX2_w4 0 = .ok (.iload_n 0, 1) := dk_26 (dk_at dksX2_w4_0 0 rfl rfl)
theorem dX2_w4_1 : decode cX2_w4 1 = .ok (.iload_n 1, 1) := dk_27 (dk_at dksX2_w4_0 1 rfl rfl)
theorem dX2_w4_2 : decode cX2_w4 2 = .ok (.iload_n 2, 1) := dk_28 (dk_at dksX2_w4_0 2 rfl rfl)
theorem dX2_w4_3 : decode cX2_w4 3 = .ok (.invokestatic 124, 3) := dk_184 0 124 (dk_at dksX2_w4_0 3 rfl rfl)
theorem dX2_w4_6 : decode cX2_w4 6 = .ok (.bipush 8, 2) := dk_16 8 (dk_at dksX2_w4_0 6 rfl rfl)
theorem dX2_w4_8 : decode cX2_w4 8 = .ok (.lshl, 1) := dk_121 (dk_at dksX2_w4_0 8 rfl rfl)
theorem dX2_w4_9 : decode cX2_w4 9 = .ok (.iload_n 3, 1) := dk_29 (dk_at dksX2_w4_0 9 rfl rfl)
theorem dX2_w4_10 : decode cX2_w4 10 = .ok (.i2l, 1) := dk_133 (dk_at dksX2_w4_0 10 rfl rfl)
theorem dX2_w4_11 : decode cX2_w4 11 = .ok (.lor, 1) := dk_129 (dk_at dksX2_w4_0 11 rfl rfl)
theorem dX2_w4_12 : decode cX2_w4 12 = .ok (.lreturn, 1) := dk_173 (dk_at dksX2_w4_0 12 rfl rfl)
abbrev cX2_w3 : ByteArray := prog_20_method_23_code
def yX2_w3 : MethodName := ⟨RX2, "w3", "(III)J"⟩
def dkwX2_w3_0 : List UInt8 := [26, 27, 184, 0, 120, 16, 8, 121, 28, 133, 129, 173]
abbrev dktX2_w3_0 : List UInt8 := dkwX2_w3_0 ++ []
theorem dksX2_w3_0 : cX2_w3.data.toList.drop 0 = dktX2_w3_0 := by decide +kernel
theorem dX2_w3_0 : decode cX2_w3 0 = .ok (.iload_n 0, 1) := dk_26 (dk_at dksX2_w3_0 0 rfl rfl)
theorem dX2_w3_1 : decode cX2_w3 1 = .ok (.iload_n 1, 1) := dk_27 (dk_at dksX2_w3_0 1 rfl rfl)
theorem dX2_w3_2 : decode cX2_w3 2 = .ok (.invokestatic 120, 3) := dk_184 0 120 (dk_at dksX2_w3_0 2 rfl rfl)
theorem dX2_w3_5 : decode cX2_w3 5 = .ok (.bipush 8, 2) := dk_16 8 (dk_at dksX2_w3_0 5 rfl rfl)
theorem dX2_w3_7 : decode cX2_w3 7 = .ok (.lshl, 1) := dk_121 (dk_at dksX2_w3_0 7 rfl rfl)
theorem dX2_w3_8 : decode cX2_w3 8 = .ok (.iload_n 2, 1) := dk_28 (dk_at dksX2_w3_0 8 rfl rfl)
theorem dX2_w3_9 : decode cX2_w3 9 = .ok (.i2l, 1) := dk_133 (dk_at dksX2_w3_0 9 rfl rfl)
theorem dX2_w3_10 : decode cX2_w3 10 = .ok (.lor, 1) := dk_129 (dk_at dksX2_w3_0 10 rfl rfl)
theorem dX2_w3_11 : decode cX2_w3 11 = .ok (.lreturn, 1) := dk_173 (dk_at dksX2_w3_0 11 rfl rfl)
abbrev cX2_w2 : ByteArray := prog_20_method_22_code
def yX2_w2 : MethodName := ⟨RX2, "w2", "(II)J"⟩
def dkwX2_w2_0 : List UInt8 := [26, 133, 16, 8, 121, 27, 133, 129, 173]
abbrev dktX2_w2_0 : List UInt8 := dkwX2_w2_0 ++ []
theorem dksX2_w2_0 : cX2_w2.data.toList.drop 0 = dktX2_w2_0 := by decide +kernel
theorem dX2_w2_0 : decode cX2_w2 0 = .ok (.iload_n 0, 1) := dk_26 (dk_at dksX2_w2_0 0 rfl rfl)
theorem dX2_w2_1 : decode cX2_w2 1 = .ok (.i2l, 1) := dk_133 (dk_at dksX2_w2_0 1 rfl rfl)
theorem dX2_w2_2 : decode cX2_w2 2 = .ok (.bipush 8, 2) := dk_16 8 (dk_at dksX2_w2_0 2 rfl rfl)
theorem dX2_w2_4 : decode cX2_w2 4 = .ok (.lshl, 1) := dk_121 (dk_at dksX2_w2_0 4 rfl rfl)
theorem dX2_w2_5 : decode cX2_w2 5 = .ok (.iload_n 1, 1) := dk_27 (dk_at dksX2_w2_0 5 rfl rfl)
theorem dX2_w2_6 : decode cX2_w2 6 = .ok (.i2l, 1) := dk_133 (dk_at dksX2_w2_0 6 rfl rfl)
theorem dX2_w2_7 : decode cX2_w2 7 = .ok (.lor, 1) := dk_129 (dk_at dksX2_w2_0 7 rfl rfl)
theorem dX2_w2_8 : decode cX2_w2 8 = .ok (.lreturn, 1) := dk_173 (dk_at dksX2_w2_0 8 rfl rfl)
abbrev cX2_w6 : ByteArray := prog_20_method_26_code
def yX2_w6 : MethodName := ⟨RX2, "w6", "(IIIIII)J"⟩
def dkwX2_w6_0 : List UInt8 := [26, 27, 28, 29, 21, 4, 184, 0, 132, 16, 8, 121, 21, 5, 133, 129, 173]
abbrev dktX2_w6_0 : List UInt8 := dkwX2_w6_0 ++ []
theorem dksX2_w6_0 : cX2_w6.data.toList.drop 0 = dktX2_w6_0 := by decide +kernel
theorem dX2_w6_0 : decode cX2_w6 0 = .ok (.iload_n 0, 1) := dk_26 (dk_at dksX2_w6_0 0 rfl rfl)
theorem dX2_w6_1 : decode cX2_w6 1 = .ok (.iload_n 1, 1) := dk_27 (dk_at dksX2_w6_0 1 rfl rfl)
theorem dX2_w6_2 : decode cX2_w6 2 = .ok (.iload_n 2, 1) := dk_28 (dk_at dksX2_w6_0 2 rfl rfl)
theorem dX2_w6_3 : decode cX2_w6 3 = .ok (.iload_n 3, 1) := dk_29 (dk_at dksX2_w6_0 3 rfl rfl)
theorem dX2_w6_4 : decode cX2_w6 4 = .ok (.iload 4, 2) := dk_21 4 (dk_at dksX2_w6_0 4 rfl rfl)
theorem dX2_w6_6 : decode cX2_w6 6 = .ok (.invokestatic 132, 3) := dk_184 0 132 (dk_at dksX2_w6_0 6 rfl rfl)
theorem dX2_w6_9 : decode cX2_w6 9 = .ok (.bipush 8, 2) := dk_16 8 (dk_at dksX2_w6_0 9 rfl rfl)
theorem dX2_w6_11 : decode cX2_w6 11 = .ok (.lshl, 1) := dk_121 (dk_at dksX2_w6_0 11 rfl rfl)
theorem dX2_w6_12 : decode cX2_w6 12 = .ok (.iload 5, 2) := dk_21 5 (dk_at dksX2_w6_0 12 rfl rfl)
theorem dX2_w6_14 : decode cX2_w6 14 = .ok (.i2l, 1) := dk_133 (dk_at dksX2_w6_0 14 rfl rfl)
theorem dX2_w6_15 : decode cX2_w6 15 = .ok (.lor, 1) := dk_129 (dk_at dksX2_w6_0 15 rfl rfl)
theorem dX2_w6_16 : decode cX2_w6 16 = .ok (.lreturn, 1) := dk_173 (dk_at dksX2_w6_0 16 rfl rfl)
abbrev cX2_w5 : ByteArray := prog_20_method_25_code
def yX2_w5 : MethodName := ⟨RX2, "w5", "(IIIII)J"⟩
def dkwX2_w5_0 : List UInt8 := [26, 27, 28, 29, 184, 0, 128, 16, 8, 121, 21, 4, 133, 129, 173]
abbrev dktX2_w5_0 : List UInt8 := dkwX2_w5_0 ++ []
theorem dksX2_w5_0 : cX2_w5.data.toList.drop 0 = dktX2_w5_0 := by decide +kernel
theorem dX2_w5_0 : decode cX2_w5 0 = .ok (.iload_n 0, 1) := dk_26 (dk_at dksX2_w5_0 0 rfl rfl)
theorem dX2_w5_1 : decode cX2_w5 1 = .ok (.iload_n 1, 1) := dk_27 (dk_at dksX2_w5_0 1 rfl rfl)
theorem dX2_w5_2 : decode cX2_w5 2 = .ok (.iload_n 2, 1) := dk_28 (dk_at dksX2_w5_0 2 rfl rfl)
theorem dX2_w5_3 : decode cX2_w5 3 = .ok (.iload_n 3, 1) := dk_29 (dk_at dksX2_w5_0 3 rfl rfl)
theorem dX2_w5_4 : decode cX2_w5 4 = .ok (.invokestatic 128, 3) := dk_184 0 128 (dk_at dksX2_w5_0 4 rfl rfl)
theorem dX2_w5_7 : decode cX2_w5 7 = .ok (.bipush 8, 2) := dk_16 8 (dk_at dksX2_w5_0 7 rfl rfl)
theorem dX2_w5_9 : decode cX2_w5 9 = .ok (.lshl, 1) := dk_121 (dk_at dksX2_w5_0 9 rfl rfl)
theorem dX2_w5_10 : decode cX2_w5 10 = .ok (.iload 4, 2) := dk_21 4 (dk_at dksX2_w5_0 10 rfl rfl)
theorem dX2_w5_12 : decode cX2_w5 12 = .ok (.i2l, 1) := dk_133 (dk_at dksX2_w5_0 12 rfl rfl)
theorem dX2_w5_13 : decode cX2_w5 13 = .ok (.lor, 1) := dk_129 (dk_at dksX2_w5_0 13 rfl rfl)
theorem dX2_w5_14 : decode cX2_w5 14 = .ok (.lreturn, 1) := dk_173 (dk_at dksX2_w5_0 14 rfl rfl)
abbrev cX2_isWord : ByteArray := prog_20_method_27_code
def yX2_isWord : MethodName := ⟨RX2, "isWord", "(J)Z"⟩
def dkwX2_isWord_0 : List UInt8 := [42, 180, 0, 98, 5, 160, 0, 16, 42, 180, 0, 111, 31, 148, 154, 0, 7, 4, 167, 0, 4, 3, 172]
abbrev dktX2_isWord_0 : List UInt8 := dkwX2_isWord_0 ++ []
theorem dksX2_isWord_0 : cX2_isWord.data.toList.drop 0 = dktX2_isWord_0 := by decide +kernel
theorem dX2_isWord_0 : decode cX2_isWord 0 = .ok (.aload_n 0, 1) := dk_42 (dk_at dksX2_isWord_0 0 rfl rfl)
theorem dX2_isWord_1 : decode cX2_isWord 1 = .ok (.getfield 98, 3) := dk_180 0 98 (dk_at dksX2_isWord_0 1 rfl rfl)
theorem dX2_isWord_4 : decode cX2_isWord 4 = .ok (.iconst 2, 1) := dk_5 (dk_at dksX2_isWord_0 4 rfl rfl)
theorem dX2_isWord_5 : decode cX2_isWord 5 = .ok (.if_icmp .ne 16, 3) := dk_160 0 16 (dk_at dksX2_isWord_0 5 rfl rfl)
theorem dX2_isWord_8 : decode cX2_isWord 8 = .ok (.aload_n 0, 1) := dk_42 (dk_at dksX2_isWord_0 8 rfl rfl)
theorem dX2_isWord_9 : decode cX2_isWord 9 = .ok (.getfield 111, 3) := dk_180 0 111 (dk_at dksX2_isWord_0 9 rfl rfl)
theorem dX2_isWord_12 : decode cX2_isWord 12 = .ok (.lload_n 1, 1) := dk_31 (dk_at dksX2_isWord_0 12 rfl rfl)
theorem dX2_isWord_13 : decode cX2_isWord 13 = .ok (.lcmp, 1) := dk_148 (dk_at dksX2_isWord_0 13 rfl rfl)
theorem dX2_isWord_14 : decode cX2_isWord 14 = .ok (.ifCond .ne 7, 3) := dk_154 0 7 (dk_at dksX2_isWord_0 14 rfl rfl)
theorem dX2_isWord_17 : decode cX2_isWord 17 = .ok (.iconst 1, 1) := dk_4 (dk_at dksX2_isWord_0 17 rfl rfl)
theorem dX2_isWord_18 : decode cX2_isWord 18 = .ok (.goto 4, 3) := dk_167 0 4 (dk_at dksX2_isWord_0 18 rfl rfl)
theorem dX2_isWord_21 : decode cX2_isWord 21 = .ok (.iconst 0, 1) := dk_3 (dk_at dksX2_isWord_0 21 rfl rfl)
theorem dX2_isWord_22 : decode cX2_isWord 22 = .ok (.ireturn, 1) := dk_172 (dk_at dksX2_isWord_0 22 rfl rfl)
abbrev cX2_has : ByteArray := prog_20_method_5_code
def yX2_has : MethodName := ⟨RX2, "has", "(II)Z"⟩
def dkwX2_has_0 : List UInt8 := [26, 27, 122, 4, 126, 4, 160, 0, 7, 4, 167, 0, 4, 3, 172]
abbrev dktX2_has_0 : List UInt8 := dkwX2_has_0 ++ []
theorem dksX2_has_0 : cX2_has.data.toList.drop 0 = dktX2_has_0 := by decide +kernel
theorem dX2_has_0 : decode cX2_has 0 = .ok (.iload_n 0, 1) := dk_26 (dk_at dksX2_has_0 0 rfl rfl)
theorem dX2_has_1 : decode cX2_has 1 = .ok (.iload_n 1, 1) := dk_27 (dk_at dksX2_has_0 1 rfl rfl)
theorem dX2_has_2 : decode cX2_has 2 = .ok (.ishr, 1) := dk_122 (dk_at dksX2_has_0 2 rfl rfl)
theorem dX2_has_3 : decode cX2_has 3 = .ok (.iconst 1, 1) := dk_4 (dk_at dksX2_has_0 3 rfl rfl)
theorem dX2_has_4 : decode cX2_has 4 = .ok (.iand, 1) := dk_126 (dk_at dksX2_has_0 4 rfl rfl)
theorem dX2_has_5 : decode cX2_has 5 = .ok (.iconst 1, 1) := dk_4 (dk_at dksX2_has_0 5 rfl rfl)
theorem dX2_has_6 : decode cX2_has 6 = .ok (.if_icmp .ne 7, 3) := dk_160 0 7 (dk_at dksX2_has_0 6 rfl rfl)
theorem dX2_has_9 : decode cX2_has 9 = .ok (.iconst 1, 1) := dk_4 (dk_at dksX2_has_0 9 rfl rfl)
theorem dX2_has_10 : decode cX2_has 10 = .ok (.goto 4, 3) := dk_167 0 4 (dk_at dksX2_has_0 10 rfl rfl)
theorem dX2_has_13 : decode cX2_has 13 = .ok (.iconst 0, 1) := dk_3 (dk_at dksX2_has_0 13 rfl rfl)
theorem dX2_has_14 : decode cX2_has 14 = .ok (.ireturn, 1) := dk_172 (dk_at dksX2_has_0 14 rfl rfl)
abbrev cX2_body : ByteArray := prog_20_method_48_code
def yX2_body : MethodName := ⟨RX2, "body", "(II)I"⟩
def dkwX2_body_7 : List UInt8 := [182, 0, 223, 172]
abbrev dktX2_body_7 : List UInt8 := dkwX2_body_7 ++ []
def dkwX2_body_6 : List UInt8 := [4, 96, 3, 16, 29, 182, 0, 215, 172, 42, 28, 4, 96, 4, 16, 60, 182, 0, 215, 172, 42, 28]
abbrev dktX2_body_6 : List UInt8 := dkwX2_body_6 ++ dktX2_body_7
def dkwX2_body_5 : List UInt8 := [16, 109, 184, 0, 128, 16, 29, 182, 0, 219, 172, 42, 28, 4, 96, 3, 16, 29, 182, 0, 215, 172, 42, 28]
abbrev dktX2_body_5 : List UInt8 := dkwX2_body_5 ++ dktX2_body_6
def dkwX2_body_4 : List UInt8 := [16, 99, 16, 107, 184, 0, 128, 16, 9, 182, 0, 219, 172, 42, 28, 3, 16, 6, 16, 102, 16, 114, 16, 111]
abbrev dktX2_body_4 : List UInt8 := dkwX2_body_4 ++ dktX2_body_5
def dkwX2_body_3 : List UInt8 := [16, 9, 16, 97, 16, 116, 184, 0, 120, 16, 29, 182, 0, 219, 172, 42, 28, 4, 16, 9, 16, 108, 16, 117]
abbrev dktX2_body_3 : List UInt8 := dkwX2_body_3 ++ dktX2_body_4
def dkwX2_body_2 : List UInt8 := [42, 28, 3, 16, 29, 16, 107, 16, 105, 16, 110, 16, 100, 184, 0, 128, 6, 182, 0, 219, 172, 42, 28, 3]
abbrev dktX2_body_2 : List UInt8 := dkwX2_body_2 ++ dktX2_body_3
def dkwX2_body_1 : List UInt8 := [170, 0, 0, 0, 0, 0, 159, 0, 0, 0, 2, 0, 0, 0, 8, 0, 0, 0, 43, 0, 0, 0, 64, 0, 0, 0, 82, 0, 0, 0, 104, 0, 0, 0, 126, 0, 0, 0, 137, 0, 0, 0, 148]
abbrev dktX2_body_1 : List UInt8 := dkwX2_body_1 ++ dktX2_body_2
def dkwX2_body_0 : List UInt8 := [27]
abbrev dktX2_body_0 : List UInt8 := dkwX2_body_0 ++ dktX2_body_1
theorem dksX2_body_0 : cX2_body.data.toList.drop 0 = dktX2_body_0 := by decide +kernel
theorem dksX2_body_1 : cX2_body.data.toList.drop 1 = dktX2_body_1 := dk_seg dksX2_body_0 1 rfl rfl
theorem dksX2_body_2 : cX2_body.data.toList.drop 44 = dktX2_body_2 := dk_seg dksX2_body_1 43 rfl rfl
theorem dksX2_body_3 : cX2_body.data.toList.drop 68 = dktX2_body_3 := dk_seg dksX2_body_2 24 rfl rfl
theorem dksX2_body_4 : cX2_body.data.toList.drop 92 = dktX2_body_4 := dk_seg dksX2_body_3 24 rfl rfl
theorem dksX2_body_5 : cX2_body.data.toList.drop 116 = dktX2_body_5 := dk_seg dksX2_body_4 24 rfl rfl
theorem dksX2_body_6 : cX2_body.data.toList.drop 140 = dktX2_body_6 := dk_seg dksX2_body_5 24 rfl rfl
theorem dksX2_body_7 : cX2_body.data.toList.drop 162 = dktX2_body_7 := dk_seg dksX2_body_6 22 rfl rfl
theorem dX2_body_0 : decode cX2_body 0 = .ok (.iload_n 1, 1) := dk_27 (dk_at dksX2_body_0 0 rfl rfl)
theorem dX2_body_1 : decode cX2_body 1 = .ok (.tableswitch 159 2 8 #[43, 64, 82, 104, 126, 137, 148], 43) := by decide +kernel
theorem dX2_body_44 : decode cX2_body 44 = .ok (.aload_n 0, 1) := dk_42 (dk_at dksX2_body_2 0 rfl rfl)
theorem dX2_body_45 : decode cX2_body 45 = .ok (.iload_n 2, 1) := dk_28 (dk_at dksX2_body_2 1 rfl rfl)
theorem dX2_body_46 : decode cX2_body 46 = .ok (.iconst 0, 1) := dk_3 (dk_at dksX2_body_2 2 rfl rfl)
theorem dX2_body_47 : decode cX2_body 47 = .ok (.bipush 29, 2) := dk_16 29 (dk_at dksX2_body_2 3 rfl rfl)
theorem dX2_body_49 : decode cX2_body 49 = .ok (.bipush 107, 2) := dk_16 107 (dk_at dksX2_body_2 5 rfl rfl)
theorem dX2_body_51 : decode cX2_body 51 = .ok (.bipush 105, 2) := dk_16 105 (dk_at dksX2_body_2 7 rfl rfl)
theorem dX2_body_53 : decode cX2_body 53 = .ok (.bipush 110, 2) := dk_16 110 (dk_at dksX2_body_2 9 rfl rfl)
theorem dX2_body_55 : decode cX2_body 55 = .ok (.bipush 100, 2) := dk_16 100 (dk_at dksX2_body_2 11 rfl rfl)
theorem dX2_body_57 : decode cX2_body 57 = .ok (.invokestatic 128, 3) := dk_184 0 128 (dk_at dksX2_body_2 13 rfl rfl)
theorem dX2_body_60 : decode cX2_body 60 = .ok (.iconst 3, 1) := dk_6 (dk_at dksX2_body_2 16 rfl rfl)
theorem dX2_body_61 : decode cX2_body 61 = .ok (.invokevirtual 219, 3) := dk_182 0 219 (dk_at dksX2_body_2 17 rfl rfl)
theorem dX2_body_64 : decode cX2_body 64 = .ok (.ireturn, 1) := dk_172 (dk_at dksX2_body_2 20 rfl rfl)
theorem dX2_body_65 : decode cX2_body 65 = .ok (.aload_n 0, 1) := dk_42 (dk_at dksX2_body_2 21 rfl rfl)
theorem dX2_body_66 : decode cX2_body 66 = .ok (.iload_n 2, 1) := dk_28 (dk_at dksX2_body_2 22 rfl rfl)
theorem dX2_body_67 : decode cX2_body 67 = .ok (.iconst 0, 1) := dk_3 (dk_at dksX2_body_2 23 rfl rfl)
theorem dX2_body_68 : decode cX2_body 68 = .ok (.bipush 9, 2) := dk_16 9 (dk_at dksX2_body_3 0 rfl rfl)
theorem dX2_body_70 : decode cX2_body 70 = .ok (.bipush 97, 2) := dk_16 97 (dk_at dksX2_body_3 2 rfl rfl)
theorem dX2_body_72 : decode cX2_body 72 = .ok (.bipush 116, 2) := dk_16 116 (dk_at dksX2_body_3 4 rfl rfl)
theorem dX2_body_74 : decode cX2_body 74 = .ok (.invokestatic 120, 3) := dk_184 0 120 (dk_at dksX2_body_3 6 rfl rfl)
theorem dX2_body_77 : decode cX2_body 77 = .ok (.bipush 29, 2) := dk_16 29 (dk_at dksX2_body_3 9 rfl rfl)
theorem dX2_body_79 : decode cX2_body 79 = .ok (.invokevirtual 219, 3) := dk_182 0 219 (dk_at dksX2_body_3 11 rfl rfl)
theorem dX2_body_82 : decode cX2_body 82 = .ok (.ireturn, 1) := dk_172 (dk_at dksX2_body_3 14 rfl rfl)
theorem dX2_body_83 : decode cX2_body 83 = .ok (.aload_n 0, 1) := dk_42 (dk_at dksX2_body_3 15 rfl rfl)
theorem dX2_body_84 : decode cX2_body 84 = .ok (.iload_n 2, 1) := dk_28 (dk_at dksX2_body_3 16 rfl rfl)
theorem dX2_body_85 : decode cX2_body 85 = .ok (.iconst 1, 1) := dk_4 (dk_at dksX2_body_3 17 rfl rfl)
theorem dX2_body_86 : decode cX2_body 86 = .ok (.bipush 9, 2) := dk_16 9 (dk_at dksX2_body_3 18 rfl rfl)
theorem dX2_body_88 : decode cX2_body 88 = .ok (.bipush 108, 2) := dk_16 108 (dk_at dksX2_body_3 20 rfl rfl)
theorem dX2_body_90 : decode cX2_body 90 = .ok (.bipush 117, 2) := dk_16 117 (dk_at dksX2_body_3 22 rfl rfl)
theorem dX2_body_92 : decode cX2_body 92 = .ok (.bipush 99, 2) := dk_16 99 (dk_at dksX2_body_4 0 rfl rfl)
theorem dX2_body_94 : decode cX2_body 94 = .ok (.bipush 107, 2) := dk_16 107 (dk_at dksX2_body_4 2 rfl rfl)
theorem dX2_body_96 : decode cX2_body 96 = .ok (.invokestatic 128, 3) := dk_184 0 128 (dk_at dksX2_body_4 4 rfl rfl)
theorem dX2_body_99 : decode cX2_body 99 = .ok (.bipush 9, 2) := dk_16 9 (dk_at dksX2_body_4 7 rfl rfl)
theorem dX2_body_101 : decode cX2_body 101 = .ok (.invokevirtual 219, 3) := dk_182 0 219 (dk_at dksX2_body_4 9 rfl rfl)
theorem dX2_body_104 : decode cX2_body 104 = .ok (.ireturn, 1) := dk_172 (dk_at dksX2_body_4 12 rfl rfl)
theorem dX2_body_105 : decode cX2_body 105 = .ok (.aload_n 0, 1) := dk_42 (dk_at dksX2_body_4 13 rfl rfl)
theorem dX2_body_106 : decode cX2_body 106 = .ok (.iload_n 2, 1) := dk_28 (dk_at dksX2_body_4 14 rfl rfl)
theorem dX2_body_107 : decode cX2_body 107 = .ok (.iconst 0, 1) := dk_3 (dk_at dksX2_body_4 15 rfl rfl)
theorem dX2_body_108 : decode cX2_body 108 = .ok (.bipush 6, 2) := dk_16 6 (dk_at dksX2_body_4 16 rfl rfl)
theorem dX2_body_110 : decode cX2_body 110 = .ok (.bipush 102, 2) := dk_16 102 (dk_at dksX2_body_4 18 rfl rfl)
theorem dX2_body_112 : decode cX2_body 112 = .ok (.bipush 114, 2) := dk_16 114 (dk_at dksX2_body_4 20 rfl rfl)
theorem dX2_body_114 : decode cX2_body 114 = .ok (.bipush 111, 2) := dk_16 111 (dk_at dksX2_body_4 22 rfl rfl)
theorem dX2_body_116 : decode cX2_body 116 = .ok (.bipush 109, 2) := dk_16 109 (dk_at dksX2_body_5 0 rfl rfl)
theorem dX2_body_118 : decode cX2_body 118 = .ok (.invokestatic 128, 3) := dk_184 0 128 (dk_at dksX2_body_5 2 rfl rfl)
theorem dX2_body_121 : decode cX2_body 121 = .ok (.bipush 29, 2) := dk_16 29 (dk_at dksX2_body_5 5 rfl rfl)
theorem dX2_body_123 : decode cX2_body 123 = .ok (.invokevirtual 219, 3) := dk_182 0 219 (dk_at dksX2_body_5 7 rfl rfl)
theorem dX2_body_126 : decode cX2_body 126 = .ok (.ireturn, 1) := dk_172 (dk_at dksX2_body_5 10 rfl rfl)
theorem dX2_body_127 : decode cX2_body 127 = .ok (.aload_n 0, 1) := dk_42 (dk_at dksX2_body_5 11 rfl rfl)
theorem dX2_body_128 : decode cX2_body 128 = .ok (.iload_n 2, 1) := dk_28 (dk_at dksX2_body_5 12 rfl rfl)
theorem dX2_body_129 : decode cX2_body 129 = .ok (.iconst 1, 1) := dk_4 (dk_at dksX2_body_5 13 rfl rfl)
theorem dX2_body_130 : decode cX2_body 130 = .ok (.iadd, 1) := dk_96 (dk_at dksX2_body_5 14 rfl rfl)
theorem dX2_body_131 : decode cX2_body 131 = .ok (.iconst 0, 1) := dk_3 (dk_at dksX2_body_5 15 rfl rfl)
theorem dX2_body_132 : decode cX2_body 132 = .ok (.bipush 29, 2) := dk_16 29 (dk_at dksX2_body_5 16 rfl rfl)
theorem dX2_body_134 : decode cX2_body 134 = .ok (.invokevirtual 215, 3) := dk_182 0 215 (dk_at dksX2_body_5 18 rfl rfl)
theorem dX2_body_137 : decode cX2_body 137 = .ok (.ireturn, 1) := dk_172 (dk_at dksX2_body_5 21 rfl rfl)
theorem dX2_body_138 : decode cX2_body 138 = .ok (.aload_n 0, 1) := dk_42 (dk_at dksX2_body_5 22 rfl rfl)
theorem dX2_body_139 : decode cX2_body 139 = .ok (.iload_n 2, 1) := dk_28 (dk_at dksX2_body_5 23 rfl rfl)
theorem dX2_body_140 : decode cX2_body 140 = .ok (.iconst 1, 1) := dk_4 (dk_at dksX2_body_6 0 rfl rfl)
theorem dX2_body_141 : decode cX2_body 141 = .ok (.iadd, 1) := dk_96 (dk_at dksX2_body_6 1 rfl rfl)
theorem dX2_body_142 : decode cX2_body 142 = .ok (.iconst 0, 1) := dk_3 (dk_at dksX2_body_6 2 rfl rfl)
theorem dX2_body_143 : decode cX2_body 143 = .ok (.bipush 29, 2) := dk_16 29 (dk_at dksX2_body_6 3 rfl rfl)
theorem dX2_body_145 : decode cX2_body 145 = .ok (.invokevirtual 215, 3) := dk_182 0 215 (dk_at dksX2_body_6 5 rfl rfl)
theorem dX2_body_148 : decode cX2_body 148 = .ok (.ireturn, 1) := dk_172 (dk_at dksX2_body_6 8 rfl rfl)
theorem dX2_body_149 : decode cX2_body 149 = .ok (.aload_n 0, 1) := dk_42 (dk_at dksX2_body_6 9 rfl rfl)
theorem dX2_body_150 : decode cX2_body 150 = .ok (.iload_n 2, 1) := dk_28 (dk_at dksX2_body_6 10 rfl rfl)
theorem dX2_body_151 : decode cX2_body 151 = .ok (.iconst 1, 1) := dk_4 (dk_at dksX2_body_6 11 rfl rfl)
theorem dX2_body_152 : decode cX2_body 152 = .ok (.iadd, 1) := dk_96 (dk_at dksX2_body_6 12 rfl rfl)
theorem dX2_body_153 : decode cX2_body 153 = .ok (.iconst 1, 1) := dk_4 (dk_at dksX2_body_6 13 rfl rfl)
theorem dX2_body_154 : decode cX2_body 154 = .ok (.bipush 60, 2) := dk_16 60 (dk_at dksX2_body_6 14 rfl rfl)
theorem dX2_body_156 : decode cX2_body 156 = .ok (.invokevirtual 215, 3) := dk_182 0 215 (dk_at dksX2_body_6 16 rfl rfl)
theorem dX2_body_159 : decode cX2_body 159 = .ok (.ireturn, 1) := dk_172 (dk_at dksX2_body_6 19 rfl rfl)
theorem dX2_body_160 : decode cX2_body 160 = .ok (.aload_n 0, 1) := dk_42 (dk_at dksX2_body_6 20 rfl rfl)
theorem dX2_body_161 : decode cX2_body 161 = .ok (.iload_n 2, 1) := dk_28 (dk_at dksX2_body_6 21 rfl rfl)
theorem dX2_body_162 : decode cX2_body 162 = .ok (.invokevirtual 223, 3) := dk_182 0 223 (dk_at dksX2_body_7 0 rfl rfl)
theorem dX2_body_165 : decode cX2_body 165 = .ok (.ireturn, 1) := dk_172 (dk_at dksX2_body_7 3 rfl rfl)
abbrev cX2_pair : ByteArray := prog_20_method_47_code
def yX2_pair : MethodName := ⟨RX2, "pair", "(IIIJI)I"⟩
def dkwX2_pair_1 : List UInt8 := [182, 0, 180, 154, 0, 5, 4, 172, 42, 182, 0, 165, 42, 27, 5, 96, 3, 21, 6, 182, 0, 215, 172]
abbrev dktX2_pair_1 : List UInt8 := dkwX2_pair_1 ++ []
def dkwX2_pair_0 : List UInt8 := [42, 27, 4, 96, 28, 29, 182, 0, 215, 54, 7, 21, 7, 153, 0, 6, 21, 7, 172, 42, 22, 4]
abbrev dktX2_pair_0 : List UInt8 := dkwX2_pair_0 ++ dktX2_pair_1
theorem dksX2_pair_0 : cX2_pair.data.toList.drop 0 = dktX2_pair_0 := by decide +kernel
theorem dksX2_pair_1 : cX2_pair.data.toList.drop 22 = dktX2_pair_1 := dk_seg dksX2_pair_0 22 rfl rfl
theorem dX2_pair_0 : decode cX2_pair 0 = .ok (.aload_n 0, 1) := dk_42 (dk_at dksX2_pair_0 0 rfl rfl)
theorem dX2_pair_1 : decode cX2_pair 1 = .ok (.iload_n 1, 1) := dk_27 (dk_at dksX2_pair_0 1 rfl rfl)
theorem dX2_pair_2 : decode cX2_pair 2 = .ok (.iconst 1, 1) := dk_4 (dk_at dksX2_pair_0 2 rfl rfl)
theorem dX2_pair_3 : decode cX2_pair 3 = .ok (.iadd, 1) := dk_96 (dk_at dksX2_pair_0 3 rfl rfl)
theorem dX2_pair_4 : decode cX2_pair 4 = .ok (.iload_n 2, 1) := dk_28 (dk_at dksX2_pair_0 4 rfl rfl)
theorem dX2_pair_5 : decode cX2_pair 5 = .ok (.iload_n 3, 1) := dk_29 (dk_at dksX2_pair_0 5 rfl rfl)
theorem dX2_pair_6 : decode cX2_pair 6 = .ok (.invokevirtual 215, 3) := dk_182 0 215 (dk_at dksX2_pair_0 6 rfl rfl)
theorem dX2_pair_9 : decode cX2_pair 9 = .ok (.istore 7, 2) := dk_54 7 (dk_at dksX2_pair_0 9 rfl rfl)
theorem dX2_pair_11 : decode cX2_pair 11 = .ok (.iload 7, 2) := dk_21 7 (dk_at dksX2_pair_0 11 rfl rfl)
theorem dX2_pair_13 : decode cX2_pair 13 = .ok (.ifCond .eq 6, 3) := dk_153 0 6 (dk_at dksX2_pair_0 13 rfl rfl)
theorem dX2_pair_16 : decode cX2_pair 16 = .ok (.iload 7, 2) := dk_21 7 (dk_at dksX2_pair_0 16 rfl rfl)
theorem dX2_pair_18 : decode cX2_pair 18 = .ok (.ireturn, 1) := dk_172 (dk_at dksX2_pair_0 18 rfl rfl)
theorem dX2_pair_19 : decode cX2_pair 19 = .ok (.aload_n 0, 1) := dk_42 (dk_at dksX2_pair_0 19 rfl rfl)
theorem dX2_pair_20 : decode cX2_pair 20 = .ok (.lload 4, 2) := dk_22 4 (dk_at dksX2_pair_0 20 rfl rfl)
theorem dX2_pair_22 : decode cX2_pair 22 = .ok (.invokevirtual 180, 3) := dk_182 0 180 (dk_at dksX2_pair_1 0 rfl rfl)
theorem dX2_pair_25 : decode cX2_pair 25 = .ok (.ifCond .ne 5, 3) := dk_154 0 5 (dk_at dksX2_pair_1 3 rfl rfl)
theorem dX2_pair_28 : decode cX2_pair 28 = .ok (.iconst 1, 1) := dk_4 (dk_at dksX2_pair_1 6 rfl rfl)
theorem dX2_pair_29 : decode cX2_pair 29 = .ok (.ireturn, 1) := dk_172 (dk_at dksX2_pair_1 7 rfl rfl)
theorem dX2_pair_30 : decode cX2_pair 30 = .ok (.aload_n 0, 1) := dk_42 (dk_at dksX2_pair_1 8 rfl rfl)
theorem dX2_pair_31 : decode cX2_pair 31 = .ok (.invokevirtual 165, 3) := dk_182 0 165 (dk_at dksX2_pair_1 9 rfl rfl)
theorem dX2_pair_34 : decode cX2_pair 34 = .ok (.aload_n 0, 1) := dk_42 (dk_at dksX2_pair_1 12 rfl rfl)
theorem dX2_pair_35 : decode cX2_pair 35 = .ok (.iload_n 1, 1) := dk_27 (dk_at dksX2_pair_1 13 rfl rfl)
theorem dX2_pair_36 : decode cX2_pair 36 = .ok (.iconst 2, 1) := dk_5 (dk_at dksX2_pair_1 14 rfl rfl)
theorem dX2_pair_37 : decode cX2_pair 37 = .ok (.iadd, 1) := dk_96 (dk_at dksX2_pair_1 15 rfl rfl)
theorem dX2_pair_38 : decode cX2_pair 38 = .ok (.iconst 0, 1) := dk_3 (dk_at dksX2_pair_1 16 rfl rfl)
theorem dX2_pair_39 : decode cX2_pair 39 = .ok (.iload 6, 2) := dk_21 6 (dk_at dksX2_pair_1 17 rfl rfl)
theorem dX2_pair_41 : decode cX2_pair 41 = .ok (.invokevirtual 215, 3) := dk_182 0 215 (dk_at dksX2_pair_1 19 rfl rfl)
theorem dX2_pair_44 : decode cX2_pair 44 = .ok (.ireturn, 1) := dk_172 (dk_at dksX2_pair_1 22 rfl rfl)
abbrev cX2_figure : ByteArray := prog_20_method_45_code
def yX2_figure : MethodName := ⟨RX2, "figure", "(III)I"⟩
def dkwX2_figure_1 : List UInt8 := [42, 180, 0, 16, 27, 42, 180, 0, 104, 79, 42, 182, 0, 165, 3, 172]
abbrev dktX2_figure_1 : List UInt8 := dkwX2_figure_1 ++ []
def dkwX2_figure_0 : List UInt8 := [42, 180, 0, 98, 4, 159, 0, 5, 4, 172, 42, 180, 0, 104, 28, 29, 184, 0, 69, 154, 0, 5, 5, 172]
abbrev dktX2_figure_0 : List UInt8 := dkwX2_figure_0 ++ dktX2_figure_1
theorem dksX2_figure_0 : cX2_figure.data.toList.drop 0 = dktX2_figure_0 := by decide +kernel
theorem dksX2_figure_1 : cX2_figure.data.toList.drop 24 = dktX2_figure_1 := dk_seg dksX2_figure_0 24 rfl rfl
theorem dX2_figure_0 : decode cX2_figure 0 = .ok (.aload_n 0, 1) := dk_42 (dk_at dksX2_figure_0 0 rfl rfl)
theorem dX2_figure_1 : decode cX2_figure 1 = .ok (.getfield 98, 3) := dk_180 0 98 (dk_at dksX2_figure_0 1 rfl rfl)
theorem dX2_figure_4 : decode cX2_figure 4 = .ok (.iconst 1, 1) := dk_4 (dk_at dksX2_figure_0 4 rfl rfl)
theorem dX2_figure_5 : decode cX2_figure 5 = .ok (.if_icmp .eq 5, 3) := dk_159 0 5 (dk_at dksX2_figure_0 5 rfl rfl)
theorem dX2_figure_8 : decode cX2_figure 8 = .ok (.iconst 1, 1) := dk_4 (dk_at dksX2_figure_0 8 rfl rfl)
theorem dX2_figure_9 : decode cX2_figure 9 = .ok (.ireturn, 1) := dk_172 (dk_at dksX2_figure_0 9 rfl rfl)
theorem dX2_figure_10 : decode cX2_figure 10 = .ok (.aload_n 0, 1) := dk_42 (dk_at dksX2_figure_0 10 rfl rfl)
theorem dX2_figure_11 : decode cX2_figure 11 = .ok (.getfield 104, 3) := dk_180 0 104 (dk_at dksX2_figure_0 11 rfl rfl)
theorem dX2_figure_14 : decode cX2_figure 14 = .ok (.iload_n 2, 1) := dk_28 (dk_at dksX2_figure_0 14 rfl rfl)
theorem dX2_figure_15 : decode cX2_figure 15 = .ok (.iload_n 3, 1) := dk_29 (dk_at dksX2_figure_0 15 rfl rfl)
theorem dX2_figure_16 : decode cX2_figure 16 = .ok (.invokestatic 69, 3) := dk_184 0 69 (dk_at dksX2_figure_0 16 rfl rfl)
theorem dX2_figure_19 : decode cX2_figure 19 = .ok (.ifCond .ne 5, 3) := dk_154 0 5 (dk_at dksX2_figure_0 19 rfl rfl)
theorem dX2_figure_22 : decode cX2_figure 22 = .ok (.iconst 2, 1) := dk_5 (dk_at dksX2_figure_0 22 rfl rfl)
theorem dX2_figure_23 : decode cX2_figure 23 = .ok (.ireturn, 1) := dk_172 (dk_at dksX2_figure_0 23 rfl rfl)
theorem dX2_figure_24 : decode cX2_figure 24 = .ok (.aload_n 0, 1) := dk_42 (dk_at dksX2_figure_1 0 rfl rfl)
theorem dX2_figure_25 : decode cX2_figure 25 = .ok (.getfield 16, 3) := dk_180 0 16 (dk_at dksX2_figure_1 1 rfl rfl)
theorem dX2_figure_28 : decode cX2_figure 28 = .ok (.iload_n 1, 1) := dk_27 (dk_at dksX2_figure_1 4 rfl rfl)
theorem dX2_figure_29 : decode cX2_figure 29 = .ok (.aload_n 0, 1) := dk_42 (dk_at dksX2_figure_1 5 rfl rfl)
theorem dX2_figure_30 : decode cX2_figure 30 = .ok (.getfield 104, 3) := dk_180 0 104 (dk_at dksX2_figure_1 6 rfl rfl)
theorem dX2_figure_33 : decode cX2_figure 33 = .ok (.iastore, 1) := dk_79 (dk_at dksX2_figure_1 9 rfl rfl)
theorem dX2_figure_34 : decode cX2_figure 34 = .ok (.aload_n 0, 1) := dk_42 (dk_at dksX2_figure_1 10 rfl rfl)
theorem dX2_figure_35 : decode cX2_figure 35 = .ok (.invokevirtual 165, 3) := dk_182 0 165 (dk_at dksX2_figure_1 11 rfl rfl)
theorem dX2_figure_38 : decode cX2_figure 38 = .ok (.iconst 0, 1) := dk_3 (dk_at dksX2_figure_1 14 rfl rfl)
theorem dX2_figure_39 : decode cX2_figure 39 = .ok (.ireturn, 1) := dk_172 (dk_at dksX2_figure_1 15 rfl rfl)
abbrev cX2_lawClause : ByteArray := prog_20_method_46_code
def yX2_lawClause : MethodName := ⟨RX2, "lawClause", "(I)I"⟩
def dkwX2_lawClause_1 : List UInt8 := [42, 180, 0, 139, 79, 28, 172]
abbrev dktX2_lawClause_1 : List UInt8 := dkwX2_lawClause_1 ++ []
def dkwX2_lawClause_0 : List UInt8 := [42, 180, 0, 16, 27, 4, 96, 42, 180, 0, 139, 79, 42, 182, 0, 212, 61, 42, 180, 0, 16, 27, 5, 96]
abbrev dktX2_lawClause_0 : List UInt8 := dkwX2_lawClause_0 ++ dktX2_lawClause_1
theorem dksX2_lawClause_0 : cX2_lawClause.data.toList.drop 0 = dktX2_lawClause_0 := by decide +kernel
theorem dksX2_lawClause_1 : cX2_lawClause.data.toList.drop 24 = dktX2_lawClause_1 := dk_seg dksX2_lawClause_0 24 rfl rfl
theorem dX2_lawClause_0 : decode cX2_lawClause 0 = .ok (.aload_n 0, 1) := dk_42 (dk_at dksX2_lawClause_0 0 rfl rfl)
theorem dX2_lawClause_1 : decode cX2_lawClause 1 = .ok (.getfield 16, 3) := dk_180 0 16 (dk_at dksX2_lawClause_0 1 rfl rfl)
theorem dX2_lawClause_4 : decode cX2_lawClause 4 = .ok (.iload_n 1, 1) := dk_27 (dk_at dksX2_lawClause_0 4 rfl rfl)
theorem dX2_lawClause_5 : decode cX2_lawClause 5 = .ok (.iconst 1, 1) := dk_4 (dk_at dksX2_lawClause_0 5 rfl rfl)
theorem dX2_lawClause_6 : decode cX2_lawClause 6 = .ok (.iadd, 1) := dk_96 (dk_at dksX2_lawClause_0 6 rfl rfl)
theorem dX2_lawClause_7 : decode cX2_lawClause 7 = .ok (.aload_n 0, 1) := dk_42 (dk_at dksX2_lawClause_0 7 rfl rfl)
theorem dX2_lawClause_8 : decode cX2_lawClause 8 = .ok (.getfield 139, 3) := dk_180 0 139 (dk_at dksX2_lawClause_0 8 rfl rfl)
theorem dX2_lawClause_11 : decode cX2_lawClause 11 = .ok (.iastore, 1) := dk_79 (dk_at dksX2_lawClause_0 11 rfl rfl)
theorem dX2_lawClause_12 : decode cX2_lawClause 12 = .ok (.aload_n 0, 1) := dk_42 (dk_at dksX2_lawClause_0 12 rfl rfl)
theorem dX2_lawClause_13 : decode cX2_lawClause 13 = .ok (.invokevirtual 212, 3) := dk_182 0 212 (dk_at dksX2_lawClause_0 13 rfl rfl)
theorem dX2_lawClause_16 : decode cX2_lawClause 16 = .ok (.istore_n 2, 1) := dk_61 (dk_at dksX2_lawClause_0 16 rfl rfl)
theorem dX2_lawClause_17 : decode cX2_lawClause 17 = .ok (.aload_n 0, 1) := dk_42 (dk_at dksX2_lawClause_0 17 rfl rfl)
theorem dX2_lawClause_18 : decode cX2_lawClause 18 = .ok (.getfield 16, 3) := dk_180 0 16 (dk_at dksX2_lawClause_0 18 rfl rfl)
theorem dX2_lawClause_21 : decode cX2_lawClause 21 = .ok (.iload_n 1, 1) := dk_27 (dk_at dksX2_lawClause_0 21 rfl rfl)
theorem dX2_lawClause_22 : decode cX2_lawClause 22 = .ok (.iconst 2, 1) := dk_5 (dk_at dksX2_lawClause_0 22 rfl rfl)
theorem dX2_lawClause_23 : decode cX2_lawClause 23 = .ok (.iadd, 1) := dk_96 (dk_at dksX2_lawClause_0 23 rfl rfl)
theorem dX2_lawClause_24 : decode cX2_lawClause 24 = .ok (.aload_n 0, 1) := dk_42 (dk_at dksX2_lawClause_1 0 rfl rfl)
theorem dX2_lawClause_25 : decode cX2_lawClause 25 = .ok (.getfield 139, 3) := dk_180 0 139 (dk_at dksX2_lawClause_1 1 rfl rfl)
theorem dX2_lawClause_28 : decode cX2_lawClause 28 = .ok (.iastore, 1) := dk_79 (dk_at dksX2_lawClause_1 4 rfl rfl)
theorem dX2_lawClause_29 : decode cX2_lawClause 29 = .ok (.iload_n 2, 1) := dk_28 (dk_at dksX2_lawClause_1 5 rfl rfl)
theorem dX2_lawClause_30 : decode cX2_lawClause 30 = .ok (.ireturn, 1) := dk_172 (dk_at dksX2_lawClause_1 6 rfl rfl)
abbrev cX2_summed : ByteArray := prog_20_method_44_code
def yX2_summed : MethodName := ⟨RX2, "summed", "()I"⟩
def dkwX2_summed_2 : List UInt8 := [42, 182, 0, 162, 155, 0, 5, 4, 172, 42, 4, 182, 0, 188, 3, 172]
abbrev dktX2_summed_2 : List UInt8 := dkwX2_summed_2 ++ []
def dkwX2_summed_1 : List UInt8 := [182, 0, 206, 167, 0, 7, 42, 182, 0, 209, 60, 27, 158, 0, 5, 27, 172, 27, 154, 0, 6, 167, 255, 227]
abbrev dktX2_summed_1 : List UInt8 := dkwX2_summed_1 ++ dktX2_summed_2
def dkwX2_summed_0 : List UInt8 := [42, 3, 181, 0, 146, 42, 3, 181, 0, 155, 42, 3, 181, 0, 191, 42, 180, 0, 191, 153, 0, 10, 42]
abbrev dktX2_summed_0 : List UInt8 := dkwX2_summed_0 ++ dktX2_summed_1
theorem dksX2_summed_0 : cX2_summed.data.toList.drop 0 = dktX2_summed_0 := by decide +kernel
theorem dksX2_summed_1 : cX2_summed.data.toList.drop 23 = dktX2_summed_1 := dk_seg dksX2_summed_0 23 rfl rfl
theorem dksX2_summed_2 : cX2_summed.data.toList.drop 47 = dktX2_summed_2 := dk_seg dksX2_summed_1 24 rfl rfl
theorem dX2_summed_0 : decode cX2_summed 0 = .ok (.aload_n 0, 1) := dk_42 (dk_at dksX2_summed_0 0 rfl rfl)
theorem dX2_summed_1 : decode cX2_summed 1 = .ok (.iconst 0, 1) := dk_3 (dk_at dksX2_summed_0 1 rfl rfl)
theorem dX2_summed_2 : decode cX2_summed 2 = .ok (.putfield 146, 3) := dk_181 0 146 (dk_at dksX2_summed_0 2 rfl rfl)
theorem dX2_summed_5 : decode cX2_summed 5 = .ok (.aload_n 0, 1) := dk_42 (dk_at dksX2_summed_0 5 rfl rfl)
theorem dX2_summed_6 : decode cX2_summed 6 = .ok (.iconst 0, 1) := dk_3 (dk_at dksX2_summed_0 6 rfl rfl)
theorem dX2_summed_7 : decode cX2_summed 7 = .ok (.putfield 155, 3) := dk_181 0 155 (dk_at dksX2_summed_0 7 rfl rfl)
theorem dX2_summed_10 : decode cX2_summed 10 = .ok (.aload_n 0, 1) := dk_42 (dk_at dksX2_summed_0 10 rfl rfl)
theorem dX2_summed_11 : decode cX2_summed 11 = .ok (.iconst 0, 1) := dk_3 (dk_at dksX2_summed_0 11 rfl rfl)
theorem dX2_summed_12 : decode cX2_summed 12 = .ok (.putfield 191, 3) := dk_181 0 191 (dk_at dksX2_summed_0 12 rfl rfl)
theorem dX2_summed_15 : decode cX2_summed 15 = .ok (.aload_n 0, 1) := dk_42 (dk_at dksX2_summed_0 15 rfl rfl)
theorem dX2_summed_16 : decode cX2_summed 16 = .ok (.getfield 191, 3) := dk_180 0 191 (dk_at dksX2_summed_0 16 rfl rfl)
theorem dX2_summed_19 : decode cX2_summed 19 = .ok (.ifCond .eq 10, 3) := dk_153 0 10 (dk_at dksX2_summed_0 19 rfl rfl)
theorem dX2_summed_22 : decode cX2_summed 22 = .ok (.aload_n 0, 1) := dk_42 (dk_at dksX2_summed_0 22 rfl rfl)
theorem dX2_summed_23 : decode cX2_summed 23 = .ok (.invokevirtual 206, 3) := dk_182 0 206 (dk_at dksX2_summed_1 0 rfl rfl)
theorem dX2_summed_26 : decode cX2_summed 26 = .ok (.goto 7, 3) := dk_167 0 7 (dk_at dksX2_summed_1 3 rfl rfl)
theorem dX2_summed_29 : decode cX2_summed 29 = .ok (.aload_n 0, 1) := dk_42 (dk_at dksX2_summed_1 6 rfl rfl)
theorem dX2_summed_30 : decode cX2_summed 30 = .ok (.invokevirtual 209, 3) := dk_182 0 209 (dk_at dksX2_summed_1 7 rfl rfl)
theorem dX2_summed_33 : decode cX2_summed 33 = .ok (.istore_n 1, 1) := dk_60 (dk_at dksX2_summed_1 10 rfl rfl)
theorem dX2_summed_34 : decode cX2_summed 34 = .ok (.iload_n 1, 1) := dk_27 (dk_at dksX2_summed_1 11 rfl rfl)
theorem dX2_summed_35 : decode cX2_summed 35 = .ok (.ifCond .le 5, 3) := dk_158 0 5 (dk_at dksX2_summed_1 12 rfl rfl)
theorem dX2_summed_38 : decode cX2_summed 38 = .ok (.iload_n 1, 1) := dk_27 (dk_at dksX2_summed_1 15 rfl rfl)
theorem dX2_summed_39 : decode cX2_summed 39 = .ok (.ireturn, 1) := dk_172 (dk_at dksX2_summed_1 16 rfl rfl)
theorem dX2_summed_40 : decode cX2_summed 40 = .ok (.iload_n 1, 1) := dk_27 (dk_at dksX2_summed_1 17 rfl rfl)
theorem dX2_summed_41 : decode cX2_summed 41 = .ok (.ifCond .ne 6, 3) := dk_154 0 6 (dk_at dksX2_summed_1 18 rfl rfl)
theorem dX2_summed_44 : decode cX2_summed 44 = .ok (.goto (-29), 3) := dk_167 255 227 (dk_at dksX2_summed_1 21 rfl rfl)
theorem dX2_summed_47 : decode cX2_summed 47 = .ok (.aload_n 0, 1) := dk_42 (dk_at dksX2_summed_2 0 rfl rfl)
theorem dX2_summed_48 : decode cX2_summed 48 = .ok (.invokevirtual 162, 3) := dk_182 0 162 (dk_at dksX2_summed_2 1 rfl rfl)
theorem dX2_summed_51 : decode cX2_summed 51 = .ok (.ifCond .lt 5, 3) := dk_155 0 5 (dk_at dksX2_summed_2 4 rfl rfl)
theorem dX2_summed_54 : decode cX2_summed 54 = .ok (.iconst 1, 1) := dk_4 (dk_at dksX2_summed_2 7 rfl rfl)
theorem dX2_summed_55 : decode cX2_summed 55 = .ok (.ireturn, 1) := dk_172 (dk_at dksX2_summed_2 8 rfl rfl)
theorem dX2_summed_56 : decode cX2_summed 56 = .ok (.aload_n 0, 1) := dk_42 (dk_at dksX2_summed_2 9 rfl rfl)
theorem dX2_summed_57 : decode cX2_summed 57 = .ok (.iconst 1, 1) := dk_4 (dk_at dksX2_summed_2 10 rfl rfl)
theorem dX2_summed_58 : decode cX2_summed 58 = .ok (.invokevirtual 188, 3) := dk_182 0 188 (dk_at dksX2_summed_2 11 rfl rfl)
theorem dX2_summed_61 : decode cX2_summed 61 = .ok (.iconst 0, 1) := dk_3 (dk_at dksX2_summed_2 14 rfl rfl)
theorem dX2_summed_62 : decode cX2_summed 62 = .ok (.ireturn, 1) := dk_172 (dk_at dksX2_summed_2 15 rfl rfl)
abbrev cX2_behindOne : ByteArray := prog_20_method_43_code
def yX2_behindOne : MethodName := ⟨RX2, "behindOne", "()I"⟩
def dkwX2_behindOne_6 : List UInt8 := [181, 0, 191, 3, 172]
abbrev dktX2_behindOne_6 : List UInt8 := dkwX2_behindOne_6 ++ []
def dkwX2_behindOne_5 : List UInt8 := [42, 6, 3, 182, 0, 152, 42, 182, 0, 174, 172, 42, 180, 0, 29, 42, 182, 0, 158, 29, 79, 42, 3]
abbrev dktX2_behindOne_5 : List UInt8 := dkwX2_behindOne_5 ++ dktX2_behindOne_6
def dkwX2_behindOne_4 : List UInt8 := [180, 0, 155, 4, 100, 181, 0, 155, 42, 89, 180, 0, 146, 4, 100, 181, 0, 146, 28, 16, 44, 160, 0, 9]
abbrev dktX2_behindOne_4 : List UInt8 := dkwX2_behindOne_4 ++ dktX2_behindOne_5
def dkwX2_behindOne_3 : List UInt8 := [62, 29, 156, 0, 5, 2, 172, 42, 4, 182, 0, 188, 42, 182, 0, 165, 29, 154, 0, 40, 42, 89]
abbrev dktX2_behindOne_3 : List UInt8 := dkwX2_behindOne_3 ++ dktX2_behindOne_4
def dkwX2_behindOne_2 : List UInt8 := [181, 0, 146, 42, 3, 181, 0, 191, 42, 182, 0, 165, 3, 172, 42, 182, 0, 162, 61, 42, 28, 182, 0, 203]
abbrev dktX2_behindOne_2 : List UInt8 := dkwX2_behindOne_2 ++ dktX2_behindOne_3
def dkwX2_behindOne_1 : List UInt8 := [184, 0, 149, 182, 0, 188, 42, 180, 0, 29, 42, 180, 0, 146, 27, 79, 42, 89, 180, 0, 146, 4, 96]
abbrev dktX2_behindOne_1 : List UInt8 := dkwX2_behindOne_1 ++ dktX2_behindOne_2
def dkwX2_behindOne_0 : List UInt8 := [42, 182, 0, 200, 60, 27, 155, 0, 54, 42, 27, 184, 0, 149, 7, 160, 0, 7, 8, 167, 0, 7, 27]
abbrev dktX2_behindOne_0 : List UInt8 := dkwX2_behindOne_0 ++ dktX2_behindOne_1
theorem dksX2_behindOne_0 : cX2_behindOne.data.toList.drop 0 = dktX2_behindOne_0 := by decide +kernel
theorem dksX2_behindOne_1 : cX2_behindOne.data.toList.drop 23 = dktX2_behindOne_1 := dk_seg dksX2_behindOne_0 23 rfl rfl
theorem dksX2_behindOne_2 : cX2_behindOne.data.toList.drop 46 = dktX2_behindOne_2 := dk_seg dksX2_behindOne_1 23 rfl rfl
theorem dksX2_behindOne_3 : cX2_behindOne.data.toList.drop 70 = dktX2_behindOne_3 := dk_seg dksX2_behindOne_2 24 rfl rfl
theorem dksX2_behindOne_4 : cX2_behindOne.data.toList.drop 92 = dktX2_behindOne_4 := dk_seg dksX2_behindOne_3 22 rfl rfl
theorem dksX2_behindOne_5 : cX2_behindOne.data.toList.drop 116 = dktX2_behindOne_5 := dk_seg dksX2_behindOne_4 24 rfl rfl
theorem dksX2_behindOne_6 : cX2_behindOne.data.toList.drop 139 = dktX2_behindOne_6 := dk_seg dksX2_behindOne_5 23 rfl rfl
theorem dX2_behindOne_0 : decode cX2_behindOne 0 = .ok (.aload_n 0, 1) := dk_42 (dk_at dksX2_behindOne_0 0 rfl rfl)
theorem dX2_behindOne_1 : decode cX2_behindOne 1 = .ok (.invokevirtual 200, 3) := dk_182 0 200 (dk_at dksX2_behindOne_0 1 rfl rfl)
theorem dX2_behindOne_4 : decode cX2_behindOne 4 = .ok (.istore_n 1, 1) := dk_60 (dk_at dksX2_behindOne_0 4 rfl rfl)
theorem dX2_behindOne_5 : decode cX2_behindOne 5 = .ok (.iload_n 1, 1) := dk_27 (dk_at dksX2_behindOne_0 5 rfl rfl)
theorem dX2_behindOne_6 : decode cX2_behindOne 6 = .ok (.ifCond .lt 54, 3) := dk_155 0 54 (dk_at dksX2_behindOne_0 6 rfl rfl)
theorem dX2_behindOne_9 : decode cX2_behindOne 9 = .ok (.aload_n 0, 1) := dk_42 (dk_at dksX2_behindOne_0 9 rfl rfl)
theorem dX2_behindOne_10 : decode cX2_behindOne 10 = .ok (.iload_n 1, 1) := dk_27 (dk_at dksX2_behindOne_0 10 rfl rfl)
theorem dX2_behindOne_11 : decode cX2_behindOne 11 = .ok (.invokestatic 149, 3) := dk_184 0 149 (dk_at dksX2_behindOne_0 11 rfl rfl)
theorem dX2_behindOne_14 : decode cX2_behindOne 14 = .ok (.iconst 4, 1) := dk_7 (dk_at dksX2_behindOne_0 14 rfl rfl)
theorem dX2_behindOne_15 : decode cX2_behindOne 15 = .ok (.if_icmp .ne 7, 3) := dk_160 0 7 (dk_at dksX2_behindOne_0 15 rfl rfl)
theorem dX2_behindOne_18 : decode cX2_behindOne 18 = .ok (.iconst 5, 1) := dk_8 (dk_at dksX2_behindOne_0 18 rfl rfl)
theorem dX2_behindOne_19 : decode cX2_behindOne 19 = .ok (.goto 7, 3) := dk_167 0 7 (dk_at dksX2_behindOne_0 19 rfl rfl)
theorem dX2_behindOne_22 : decode cX2_behindOne 22 = .ok (.iload_n 1, 1) := dk_27 (dk_at dksX2_behindOne_0 22 rfl rfl)
theorem dX2_behindOne_23 : decode cX2_behindOne 23 = .ok (.invokestatic 149, 3) := dk_184 0 149 (dk_at dksX2_behindOne_1 0 rfl rfl)
theorem dX2_behindOne_26 : decode cX2_behindOne 26 = .ok (.invokevirtual 188, 3) := dk_182 0 188 (dk_at dksX2_behindOne_1 3 rfl rfl)
theorem dX2_behindOne_29 : decode cX2_behindOne 29 = .ok (.aload_n 0, 1) := dk_42 (dk_at dksX2_behindOne_1 6 rfl rfl)
theorem dX2_behindOne_30 : decode cX2_behindOne 30 = .ok (.getfield 29, 3) := dk_180 0 29 (dk_at dksX2_behindOne_1 7 rfl rfl)
theorem dX2_behindOne_33 : decode cX2_behindOne 33 = .ok (.aload_n 0, 1) := dk_42 (dk_at dksX2_behindOne_1 10 rfl rfl)
theorem dX2_behindOne_34 : decode cX2_behindOne 34 = .ok (.getfield 146, 3) := dk_180 0 146 (dk_at dksX2_behindOne_1 11 rfl rfl)
theorem dX2_behindOne_37 : decode cX2_behindOne 37 = .ok (.iload_n 1, 1) := dk_27 (dk_at dksX2_behindOne_1 14 rfl rfl)
theorem dX2_behindOne_38 : decode cX2_behindOne 38 = .ok (.iastore, 1) := dk_79 (dk_at dksX2_behindOne_1 15 rfl rfl)
theorem dX2_behindOne_39 : decode cX2_behindOne 39 = .ok (.aload_n 0, 1) := dk_42 (dk_at dksX2_behindOne_1 16 rfl rfl)
theorem dX2_behindOne_40 : decode cX2_behindOne 40 = .ok (.dup, 1) := dk_89 (dk_at dksX2_behindOne_1 17 rfl rfl)
theorem dX2_behindOne_41 : decode cX2_behindOne 41 = .ok (.getfield 146, 3) := dk_180 0 146 (dk_at dksX2_behindOne_1 18 rfl rfl)
theorem dX2_behindOne_44 : decode cX2_behindOne 44 = .ok (.iconst 1, 1) := dk_4 (dk_at dksX2_behindOne_1 21 rfl rfl)
theorem dX2_behindOne_45 : decode cX2_behindOne 45 = .ok (.iadd, 1) := dk_96 (dk_at dksX2_behindOne_1 22 rfl rfl)
theorem dX2_behindOne_46 : decode cX2_behindOne 46 = .ok (.putfield 146, 3) := dk_181 0 146 (dk_at dksX2_behindOne_2 0 rfl rfl)
theorem dX2_behindOne_49 : decode cX2_behindOne 49 = .ok (.aload_n 0, 1) := dk_42 (dk_at dksX2_behindOne_2 3 rfl rfl)
theorem dX2_behindOne_50 : decode cX2_behindOne 50 = .ok (.iconst 0, 1) := dk_3 (dk_at dksX2_behindOne_2 4 rfl rfl)
theorem dX2_behindOne_51 : decode cX2_behindOne 51 = .ok (.putfield 191, 3) := dk_181 0 191 (dk_at dksX2_behindOne_2 5 rfl rfl)
theorem dX2_behindOne_54 : decode cX2_behindOne 54 = .ok (.aload_n 0, 1) := dk_42 (dk_at dksX2_behindOne_2 8 rfl rfl)
theorem dX2_behindOne_55 : decode cX2_behindOne 55 = .ok (.invokevirtual 165, 3) := dk_182 0 165 (dk_at dksX2_behindOne_2 9 rfl rfl)
theorem dX2_behindOne_58 : decode cX2_behindOne 58 = .ok (.iconst 0, 1) := dk_3 (dk_at dksX2_behindOne_2 12 rfl rfl)
theorem dX2_behindOne_59 : decode cX2_behindOne 59 = .ok (.ireturn, 1) := dk_172 (dk_at dksX2_behindOne_2 13 rfl rfl)
theorem dX2_behindOne_60 : decode cX2_behindOne 60 = .ok (.aload_n 0, 1) := dk_42 (dk_at dksX2_behindOne_2 14 rfl rfl)
theorem dX2_behindOne_61 : decode cX2_behindOne 61 = .ok (.invokevirtual 162, 3) := dk_182 0 162 (dk_at dksX2_behindOne_2 15 rfl rfl)
theorem dX2_behindOne_64 : decode cX2_behindOne 64 = .ok (.istore_n 2, 1) := dk_61 (dk_at dksX2_behindOne_2 18 rfl rfl)
theorem dX2_behindOne_65 : decode cX2_behindOne 65 = .ok (.aload_n 0, 1) := dk_42 (dk_at dksX2_behindOne_2 19 rfl rfl)
theorem dX2_behindOne_66 : decode cX2_behindOne 66 = .ok (.iload_n 2, 1) := dk_28 (dk_at dksX2_behindOne_2 20 rfl rfl)
theorem dX2_behindOne_67 : decode cX2_behindOne 67 = .ok (.invokevirtual 203, 3) := dk_182 0 203 (dk_at dksX2_behindOne_2 21 rfl rfl)
theorem dX2_behindOne_70 : decode cX2_behindOne 70 = .ok (.istore_n 3, 1) := dk_62 (dk_at dksX2_behindOne_3 0 rfl rfl)
theorem dX2_behindOne_71 : decode cX2_behindOne 71 = .ok (.iload_n 3, 1) := dk_29 (dk_at dksX2_behindOne_3 1 rfl rfl)
theorem dX2_behindOne_72 : decode cX2_behindOne 72 = .ok (.ifCond .ge 5, 3) := dk_156 0 5 (dk_at dksX2_behindOne_3 2 rfl rfl)
theorem dX2_behindOne_75 : decode cX2_behindOne 75 = .ok (.iconst (-1), 1) := dk_2 (dk_at dksX2_behindOne_3 5 rfl rfl)
theorem dX2_behindOne_76 : decode cX2_behindOne 76 = .ok (.ireturn, 1) := dk_172 (dk_at dksX2_behindOne_3 6 rfl rfl)
theorem dX2_behindOne_77 : decode cX2_behindOne 77 = .ok (.aload_n 0, 1) := dk_42 (dk_at dksX2_behindOne_3 7 rfl rfl)
theorem dX2_behindOne_78 : decode cX2_behindOne 78 = .ok (.iconst 1, 1) := dk_4 (dk_at dksX2_behindOne_3 8 rfl rfl)
theorem dX2_behindOne_79 : decode cX2_behindOne 79 = .ok (.invokevirtual 188, 3) := dk_182 0 188 (dk_at dksX2_behindOne_3 9 rfl rfl)
theorem dX2_behindOne_82 : decode cX2_behindOne 82 = .ok (.aload_n 0, 1) := dk_42 (dk_at dksX2_behindOne_3 12 rfl rfl)
theorem dX2_behindOne_83 : decode cX2_behindOne 83 = .ok (.invokevirtual 165, 3) := dk_182 0 165 (dk_at dksX2_behindOne_3 13 rfl rfl)
theorem dX2_behindOne_86 : decode cX2_behindOne 86 = .ok (.iload_n 3, 1) := dk_29 (dk_at dksX2_behindOne_3 16 rfl rfl)
theorem dX2_behindOne_87 : decode cX2_behindOne 87 = .ok (.ifCond .ne 40, 3) := dk_154 0 40 (dk_at dksX2_behindOne_3 17 rfl rfl)
theorem dX2_behindOne_90 : decode cX2_behindOne 90 = .ok (.aload_n 0, 1) := dk_42 (dk_at dksX2_behindOne_3 20 rfl rfl)
theorem dX2_behindOne_91 : decode cX2_behindOne 91 = .ok (.dup, 1) := dk_89 (dk_at dksX2_behindOne_3 21 rfl rfl)
theorem dX2_behindOne_92 : decode cX2_behindOne 92 = .ok (.getfield 155, 3) := dk_180 0 155 (dk_at dksX2_behindOne_4 0 rfl rfl)
theorem dX2_behindOne_95 : decode cX2_behindOne 95 = .ok (.iconst 1, 1) := dk_4 (dk_at dksX2_behindOne_4 3 rfl rfl)
theorem dX2_behindOne_96 : decode cX2_behindOne 96 = .ok (.isub, 1) := dk_100 (dk_at dksX2_behindOne_4 4 rfl rfl)
theorem dX2_behindOne_97 : decode cX2_behindOne 97 = .ok (.putfield 155, 3) := dk_181 0 155 (dk_at dksX2_behindOne_4 5 rfl rfl)
theorem dX2_behindOne_100 : decode cX2_behindOne 100 = .ok (.aload_n 0, 1) := dk_42 (dk_at dksX2_behindOne_4 8 rfl rfl)
theorem dX2_behindOne_101 : decode cX2_behindOne 101 = .ok (.dup, 1) := dk_89 (dk_at dksX2_behindOne_4 9 rfl rfl)
theorem dX2_behindOne_102 : decode cX2_behindOne 102 = .ok (.getfield 146, 3) := dk_180 0 146 (dk_at dksX2_behindOne_4 10 rfl rfl)
theorem dX2_behindOne_105 : decode cX2_behindOne 105 = .ok (.iconst 1, 1) := dk_4 (dk_at dksX2_behindOne_4 13 rfl rfl)
theorem dX2_behindOne_106 : decode cX2_behindOne 106 = .ok (.isub, 1) := dk_100 (dk_at dksX2_behindOne_4 14 rfl rfl)
theorem dX2_behindOne_107 : decode cX2_behindOne 107 = .ok (.putfield 146, 3) := dk_181 0 146 (dk_at dksX2_behindOne_4 15 rfl rfl)
theorem dX2_behindOne_110 : decode cX2_behindOne 110 = .ok (.iload_n 2, 1) := dk_28 (dk_at dksX2_behindOne_4 18 rfl rfl)
theorem dX2_behindOne_111 : decode cX2_behindOne 111 = .ok (.bipush 44, 2) := dk_16 44 (dk_at dksX2_behindOne_4 19 rfl rfl)
theorem dX2_behindOne_113 : decode cX2_behindOne 113 = .ok (.if_icmp .ne 9, 3) := dk_160 0 9 (dk_at dksX2_behindOne_4 21 rfl rfl)
theorem dX2_behindOne_116 : decode cX2_behindOne 116 = .ok (.aload_n 0, 1) := dk_42 (dk_at dksX2_behindOne_5 0 rfl rfl)
theorem dX2_behindOne_117 : decode cX2_behindOne 117 = .ok (.iconst 3, 1) := dk_6 (dk_at dksX2_behindOne_5 1 rfl rfl)
theorem dX2_behindOne_118 : decode cX2_behindOne 118 = .ok (.iconst 0, 1) := dk_3 (dk_at dksX2_behindOne_5 2 rfl rfl)
theorem dX2_behindOne_119 : decode cX2_behindOne 119 = .ok (.invokevirtual 152, 3) := dk_182 0 152 (dk_at dksX2_behindOne_5 3 rfl rfl)
theorem dX2_behindOne_122 : decode cX2_behindOne 122 = .ok (.aload_n 0, 1) := dk_42 (dk_at dksX2_behindOne_5 6 rfl rfl)
theorem dX2_behindOne_123 : decode cX2_behindOne 123 = .ok (.invokevirtual 174, 3) := dk_182 0 174 (dk_at dksX2_behindOne_5 7 rfl rfl)
theorem dX2_behindOne_126 : decode cX2_behindOne 126 = .ok (.ireturn, 1) := dk_172 (dk_at dksX2_behindOne_5 10 rfl rfl)
theorem dX2_behindOne_127 : decode cX2_behindOne 127 = .ok (.aload_n 0, 1) := dk_42 (dk_at dksX2_behindOne_5 11 rfl rfl)
theorem dX2_behindOne_128 : decode cX2_behindOne 128 = .ok (.getfield 29, 3) := dk_180 0 29 (dk_at dksX2_behindOne_5 12 rfl rfl)
theorem dX2_behindOne_131 : decode cX2_behindOne 131 = .ok (.aload_n 0, 1) := dk_42 (dk_at dksX2_behindOne_5 15 rfl rfl)
theorem dX2_behindOne_132 : decode cX2_behindOne 132 = .ok (.invokevirtual 158, 3) := dk_182 0 158 (dk_at dksX2_behindOne_5 16 rfl rfl)
theorem dX2_behindOne_135 : decode cX2_behindOne 135 = .ok (.iload_n 3, 1) := dk_29 (dk_at dksX2_behindOne_5 19 rfl rfl)
theorem dX2_behindOne_136 : decode cX2_behindOne 136 = .ok (.iastore, 1) := dk_79 (dk_at dksX2_behindOne_5 20 rfl rfl)
theorem dX2_behindOne_137 : decode cX2_behindOne 137 = .ok (.aload_n 0, 1) := dk_42 (dk_at dksX2_behindOne_5 21 rfl rfl)
theorem dX2_behindOne_138 : decode cX2_behindOne 138 = .ok (.iconst 0, 1) := dk_3 (dk_at dksX2_behindOne_5 22 rfl rfl)
theorem dX2_behindOne_139 : decode cX2_behindOne 139 = .ok (.putfield 191, 3) := dk_181 0 191 (dk_at dksX2_behindOne_6 0 rfl rfl)
theorem dX2_behindOne_142 : decode cX2_behindOne 142 = .ok (.iconst 0, 1) := dk_3 (dk_at dksX2_behindOne_6 3 rfl rfl)
theorem dX2_behindOne_143 : decode cX2_behindOne 143 = .ok (.ireturn, 1) := dk_172 (dk_at dksX2_behindOne_6 4 rfl rfl)
abbrev cX2_betweenOf : ByteArray := prog_20_method_41_code
def yX2_betweenOf : MethodName := ⟨RX2, "betweenOf", "()I"⟩
def dkwX2_betweenOf_4 : List UInt8 := [16, 114, 184, 0, 120, 182, 0, 180, 153, 0, 8, 16, 22, 167, 0, 4, 2, 172]
abbrev dktX2_betweenOf_4 : List UInt8 := dkwX2_betweenOf_4 ++ []
def dkwX2_betweenOf_3 : List UInt8 := [16, 97, 16, 110, 16, 100, 184, 0, 124, 182, 0, 180, 153, 0, 8, 16, 21, 167, 0, 23, 42, 16, 111]
abbrev dktX2_betweenOf_3 : List UInt8 := dkwX2_betweenOf_3 ++ dktX2_betweenOf_4
def dkwX2_betweenOf_2 : List UInt8 := [42, 182, 0, 162, 16, 42, 159, 0, 5, 2, 172, 42, 182, 0, 194, 154, 0, 8, 42, 182, 0, 197, 172, 42]
abbrev dktX2_betweenOf_2 : List UInt8 := dkwX2_betweenOf_2 ++ dktX2_betweenOf_3
def dkwX2_betweenOf_1 : List UInt8 := [42, 180, 0, 98, 16, 42, 160, 0, 6, 16, 8, 172, 42, 180, 0, 98, 16, 47, 160, 0, 6, 16, 9, 172]
abbrev dktX2_betweenOf_1 : List UInt8 := dkwX2_betweenOf_1 ++ dktX2_betweenOf_2
def dkwX2_betweenOf_0 : List UInt8 := [42, 180, 0, 98, 16, 43, 160, 0, 6, 16, 6, 172, 42, 180, 0, 98, 16, 45, 160, 0, 6, 16, 7, 172]
abbrev dktX2_betweenOf_0 : List UInt8 := dkwX2_betweenOf_0 ++ dktX2_betweenOf_1
theorem dksX2_betweenOf_0 : cX2_betweenOf.data.toList.drop 0 = dktX2_betweenOf_0 := by decide +kernel
theorem dksX2_betweenOf_1 : cX2_betweenOf.data.toList.drop 24 = dktX2_betweenOf_1 := dk_seg dksX2_betweenOf_0 24 rfl rfl
theorem dksX2_betweenOf_2 : cX2_betweenOf.data.toList.drop 48 = dktX2_betweenOf_2 := dk_seg dksX2_betweenOf_1 24 rfl rfl
theorem dksX2_betweenOf_3 : cX2_betweenOf.data.toList.drop 72 = dktX2_betweenOf_3 := dk_seg dksX2_betweenOf_2 24 rfl rfl
theorem dksX2_betweenOf_4 : cX2_betweenOf.data.toList.drop 95 = dktX2_betweenOf_4 := dk_seg dksX2_betweenOf_3 23 rfl rfl
theorem dX2_betweenOf_0 : decode cX2_betweenOf 0 = .ok (.aload_n 0, 1) := dk_42 (dk_at dksX2_betweenOf_0 0 rfl rfl)
theorem dX2_betweenOf_1 : decode cX2_betweenOf 1 = .ok (.getfield 98, 3) := dk_180 0 98 (dk_at dksX2_betweenOf_0 1 rfl rfl)
theorem dX2_betweenOf_4 : decode cX2_betweenOf 4 = .ok (.bipush 43, 2) := dk_16 43 (dk_at dksX2_betweenOf_0 4 rfl rfl)
theorem dX2_betweenOf_6 : decode cX2_betweenOf 6 = .ok (.if_icmp .ne 6, 3) := dk_160 0 6 (dk_at dksX2_betweenOf_0 6 rfl rfl)
theorem dX2_betweenOf_9 : decode cX2_betweenOf 9 = .ok (.bipush 6, 2) := dk_16 6 (dk_at dksX2_betweenOf_0 9 rfl rfl)
theorem dX2_betweenOf_11 : decode cX2_betweenOf 11 = .ok (.ireturn, 1) := dk_172 (dk_at dksX2_betweenOf_0 11 rfl rfl)
theorem dX2_betweenOf_12 : decode cX2_betweenOf 12 = .ok (.aload_n 0, 1) := dk_42 (dk_at dksX2_betweenOf_0 12 rfl rfl)
theorem dX2_betweenOf_13 : decode cX2_betweenOf 13 = .ok (.getfield 98, 3) := dk_180 0 98 (dk_at dksX2_betweenOf_0 13 rfl rfl)
theorem dX2_betweenOf_16 : decode cX2_betweenOf 16 = .ok (.bipush 45, 2) := dk_16 45 (dk_at dksX2_betweenOf_0 16 rfl rfl)
theorem dX2_betweenOf_18 : decode cX2_betweenOf 18 = .ok (.if_icmp .ne 6, 3) := dk_160 0 6 (dk_at dksX2_betweenOf_0 18 rfl rfl)
theorem dX2_betweenOf_21 : decode cX2_betweenOf 21 = .ok (.bipush 7, 2) := dk_16 7 (dk_at dksX2_betweenOf_0 21 rfl rfl)
theorem dX2_betweenOf_23 : decode cX2_betweenOf 23 = .ok (.ireturn, 1) := dk_172 (dk_at dksX2_betweenOf_0 23 rfl rfl)
theorem dX2_betweenOf_24 : decode cX2_betweenOf 24 = .ok (.aload_n 0, 1) := dk_42 (dk_at dksX2_betweenOf_1 0 rfl rfl)
theorem dX2_betweenOf_25 : decode cX2_betweenOf 25 = .ok (.getfield 98, 3) := dk_180 0 98 (dk_at dksX2_betweenOf_1 1 rfl rfl)
theorem dX2_betweenOf_28 : decode cX2_betweenOf 28 = .ok (.bipush 42, 2) := dk_16 42 (dk_at dksX2_betweenOf_1 4 rfl rfl)
theorem dX2_betweenOf_30 : decode cX2_betweenOf 30 = .ok (.if_icmp .ne 6, 3) := dk_160 0 6 (dk_at dksX2_betweenOf_1 6 rfl rfl)
theorem dX2_betweenOf_33 : decode cX2_betweenOf 33 = .ok (.bipush 8, 2) := dk_16 8 (dk_at dksX2_betweenOf_1 9 rfl rfl)
theorem dX2_betweenOf_35 : decode cX2_betweenOf 35 = .ok (.ireturn, 1) := dk_172 (dk_at dksX2_betweenOf_1 11 rfl rfl)
theorem dX2_betweenOf_36 : decode cX2_betweenOf 36 = .ok (.aload_n 0, 1) := dk_42 (dk_at dksX2_betweenOf_1 12 rfl rfl)
theorem dX2_betweenOf_37 : decode cX2_betweenOf 37 = .ok (.getfield 98, 3) := dk_180 0 98 (dk_at dksX2_betweenOf_1 13 rfl rfl)
theorem dX2_betweenOf_40 : decode cX2_betweenOf 40 = .ok (.bipush 47, 2) := dk_16 47 (dk_at dksX2_betweenOf_1 16 rfl rfl)
theorem dX2_betweenOf_42 : decode cX2_betweenOf 42 = .ok (.if_icmp .ne 6, 3) := dk_160 0 6 (dk_at dksX2_betweenOf_1 18 rfl rfl)
theorem dX2_betweenOf_45 : decode cX2_betweenOf 45 = .ok (.bipush 9, 2) := dk_16 9 (dk_at dksX2_betweenOf_1 21 rfl rfl)
theorem dX2_betweenOf_47 : decode cX2_betweenOf 47 = .ok (.ireturn, 1) := dk_172 (dk_at dksX2_betweenOf_1 23 rfl rfl)
theorem dX2_betweenOf_48 : decode cX2_betweenOf 48 = .ok (.aload_n 0, 1) := dk_42 (dk_at dksX2_betweenOf_2 0 rfl rfl)
theorem dX2_betweenOf_49 : decode cX2_betweenOf 49 = .ok (.invokevirtual 162, 3) := dk_182 0 162 (dk_at dksX2_betweenOf_2 1 rfl rfl)
theorem dX2_betweenOf_52 : decode cX2_betweenOf 52 = .ok (.bipush 42, 2) := dk_16 42 (dk_at dksX2_betweenOf_2 4 rfl rfl)
theorem dX2_betweenOf_54 : decode cX2_betweenOf 54 = .ok (.if_icmp .eq 5, 3) := dk_159 0 5 (dk_at dksX2_betweenOf_2 6 rfl rfl)
theorem dX2_betweenOf_57 : decode cX2_betweenOf 57 = .ok (.iconst (-1), 1) := dk_2 (dk_at dksX2_betweenOf_2 9 rfl rfl)
theorem dX2_betweenOf_58 : decode cX2_betweenOf 58 = .ok (.ireturn, 1) := dk_172 (dk_at dksX2_betweenOf_2 10 rfl rfl)
theorem dX2_betweenOf_59 : decode cX2_betweenOf 59 = .ok (.aload_n 0, 1) := dk_42 (dk_at dksX2_betweenOf_2 11 rfl rfl)
theorem dX2_betweenOf_60 : decode cX2_betweenOf 60 = .ok (.invokevirtual 194, 3) := dk_182 0 194 (dk_at dksX2_betweenOf_2 12 rfl rfl)
theorem dX2_betweenOf_63 : decode cX2_betweenOf 63 = .ok (.ifCond .ne 8, 3) := dk_154 0 8 (dk_at dksX2_betweenOf_2 15 rfl rfl)
theorem dX2_betweenOf_66 : decode cX2_betweenOf 66 = .ok (.aload_n 0, 1) := dk_42 (dk_at dksX2_betweenOf_2 18 rfl rfl)
theorem dX2_betweenOf_67 : decode cX2_betweenOf 67 = .ok (.invokevirtual 197, 3) := dk_182 0 197 (dk_at dksX2_betweenOf_2 19 rfl rfl)
theorem dX2_betweenOf_70 : decode cX2_betweenOf 70 = .ok (.ireturn, 1) := dk_172 (dk_at dksX2_betweenOf_2 22 rfl rfl)
theorem dX2_betweenOf_71 : decode cX2_betweenOf 71 = .ok (.aload_n 0, 1) := dk_42 (dk_at dksX2_betweenOf_2 23 rfl rfl)
theorem dX2_betweenOf_72 : decode cX2_betweenOf 72 = .ok (.bipush 97, 2) := dk_16 97 (dk_at dksX2_betweenOf_3 0 rfl rfl)
theorem dX2_betweenOf_74 : decode cX2_betweenOf 74 = .ok (.bipush 110, 2) := dk_16 110 (dk_at dksX2_betweenOf_3 2 rfl rfl)
theorem dX2_betweenOf_76 : decode cX2_betweenOf 76 = .ok (.bipush 100, 2) := dk_16 100 (dk_at dksX2_betweenOf_3 4 rfl rfl)
theorem dX2_betweenOf_78 : decode cX2_betweenOf 78 = .ok (.invokestatic 124, 3) := dk_184 0 124 (dk_at dksX2_betweenOf_3 6 rfl rfl)
theorem dX2_betweenOf_81 : decode cX2_betweenOf 81 = .ok (.invokevirtual 180, 3) := dk_182 0 180 (dk_at dksX2_betweenOf_3 9 rfl rfl)
theorem dX2_betweenOf_84 : decode cX2_betweenOf 84 = .ok (.ifCond .eq 8, 3) := dk_153 0 8 (dk_at dksX2_betweenOf_3 12 rfl rfl)
theorem dX2_betweenOf_87 : decode cX2_betweenOf 87 = .ok (.bipush 21, 2) := dk_16 21 (dk_at dksX2_betweenOf_3 15 rfl rfl)
theorem dX2_betweenOf_89 : decode cX2_betweenOf 89 = .ok (.goto 23, 3) := dk_167 0 23 (dk_at dksX2_betweenOf_3 17 rfl rfl)
theorem dX2_betweenOf_92 : decode cX2_betweenOf 92 = .ok (.aload_n 0, 1) := dk_42 (dk_at dksX2_betweenOf_3 20 rfl rfl)
theorem dX2_betweenOf_93 : decode cX2_betweenOf 93 = .ok (.bipush 111, 2) := dk_16 111 (dk_at dksX2_betweenOf_3 21 rfl rfl)
theorem dX2_betweenOf_95 : decode cX2_betweenOf 95 = .ok (.bipush 114, 2) := dk_16 114 (dk_at dksX2_betweenOf_4 0 rfl rfl)
theorem dX2_betweenOf_97 : decode cX2_betweenOf 97 = .ok (.invokestatic 120, 3) := dk_184 0 120 (dk_at dksX2_betweenOf_4 2 rfl rfl)
theorem dX2_betweenOf_100 : decode cX2_betweenOf 100 = .ok (.invokevirtual 180, 3) := dk_182 0 180 (dk_at dksX2_betweenOf_4 5 rfl rfl)
theorem dX2_betweenOf_103 : decode cX2_betweenOf 103 = .ok (.ifCond .eq 8, 3) := dk_153 0 8 (dk_at dksX2_betweenOf_4 8 rfl rfl)
theorem dX2_betweenOf_106 : decode cX2_betweenOf 106 = .ok (.bipush 22, 2) := dk_16 22 (dk_at dksX2_betweenOf_4 11 rfl rfl)
theorem dX2_betweenOf_108 : decode cX2_betweenOf 108 = .ok (.goto 4, 3) := dk_167 0 4 (dk_at dksX2_betweenOf_4 13 rfl rfl)
theorem dX2_betweenOf_111 : decode cX2_betweenOf 111 = .ok (.iconst (-1), 1) := dk_2 (dk_at dksX2_betweenOf_4 16 rfl rfl)
theorem dX2_betweenOf_112 : decode cX2_betweenOf 112 = .ok (.ireturn, 1) := dk_172 (dk_at dksX2_betweenOf_4 17 rfl rfl)
abbrev cX2_openNow : ByteArray := prog_20_method_34_code
def yX2_openNow : MethodName := ⟨RX2, "openNow", "()I"⟩
def dkwX2_openNow_0 : List UInt8 := [42, 182, 0, 158, 156, 0, 7, 2, 167, 0, 12, 42, 180, 0, 29, 42, 182, 0, 158, 46, 172]
abbrev dktX2_openNow_0 : List UInt8 := dkwX2_openNow_0 ++ []
theorem dksX2_openNow_0 : cX2_openNow.data.toList.drop 0 = dktX2_openNow_0 := by decide +kernel
theorem dX2_openNow_0 : decode cX2_openNow 0 = .ok (.aload_n 0, 1) := dk_42 (dk_at dksX2_openNow_0 0 rfl rfl)
theorem dX2_openNow_1 : decode cX2_openNow 1 = .ok (.invokevirtual 158, 3) := dk_182 0 158 (dk_at dksX2_openNow_0 1 rfl rfl)
theorem dX2_openNow_4 : decode cX2_openNow 4 = .ok (.ifCond .ge 7, 3) := dk_156 0 7 (dk_at dksX2_openNow_0 4 rfl rfl)
theorem dX2_openNow_7 : decode cX2_openNow 7 = .ok (.iconst (-1), 1) := dk_2 (dk_at dksX2_openNow_0 7 rfl rfl)
theorem dX2_openNow_8 : decode cX2_openNow 8 = .ok (.goto 12, 3) := dk_167 0 12 (dk_at dksX2_openNow_0 8 rfl rfl)
theorem dX2_openNow_11 : decode cX2_openNow 11 = .ok (.aload_n 0, 1) := dk_42 (dk_at dksX2_openNow_0 11 rfl rfl)
theorem dX2_openNow_12 : decode cX2_openNow 12 = .ok (.getfield 29, 3) := dk_180 0 29 (dk_at dksX2_openNow_0 12 rfl rfl)
theorem dX2_openNow_15 : decode cX2_openNow 15 = .ok (.aload_n 0, 1) := dk_42 (dk_at dksX2_openNow_0 15 rfl rfl)
theorem dX2_openNow_16 : decode cX2_openNow 16 = .ok (.invokevirtual 158, 3) := dk_182 0 158 (dk_at dksX2_openNow_0 16 rfl rfl)
theorem dX2_openNow_19 : decode cX2_openNow 19 = .ok (.iaload, 1) := dk_46 (dk_at dksX2_openNow_0 19 rfl rfl)
theorem dX2_openNow_20 : decode cX2_openNow 20 = .ok (.ireturn, 1) := dk_172 (dk_at dksX2_openNow_0 20 rfl rfl)
abbrev cX2_openAt : ByteArray := prog_20_method_33_code
def yX2_openAt : MethodName := ⟨RX2, "openAt", "()I"⟩
def dkwX2_openAt_1 : List UInt8 := [132, 1, 255, 167, 255, 238, 27, 172]
abbrev dktX2_openAt_1 : List UInt8 := dkwX2_openAt_1 ++ []
def dkwX2_openAt_0 : List UInt8 := [42, 180, 0, 146, 4, 100, 60, 27, 155, 0, 20, 42, 180, 0, 29, 27, 46, 16, 40, 162, 0, 9]
abbrev dktX2_openAt_0 : List UInt8 := dkwX2_openAt_0 ++ dktX2_openAt_1
theorem dksX2_openAt_0 : cX2_openAt.data.toList.drop 0 = dktX2_openAt_0 := by decide +kernel
theorem dksX2_openAt_1 : cX2_openAt.data.toList.drop 22 = dktX2_openAt_1 := dk_seg dksX2_openAt_0 22 rfl rfl
theorem dX2_openAt_0 : decode cX2_openAt 0 = .ok (.aload_n 0, 1) := dk_42 (dk_at dksX2_openAt_0 0 rfl rfl)
theorem dX2_openAt_1 : decode cX2_openAt 1 = .ok (.getfield 146, 3) := dk_180 0 146 (dk_at dksX2_openAt_0 1 rfl rfl)
theorem dX2_openAt_4 : decode cX2_openAt 4 = .ok (.iconst 1, 1) := dk_4 (dk_at dksX2_openAt_0 4 rfl rfl)
theorem dX2_openAt_5 : decode cX2_openAt 5 = .ok (.isub, 1) := dk_100 (dk_at dksX2_openAt_0 5 rfl rfl)
theorem dX2_openAt_6 : decode cX2_openAt 6 = .ok (.istore_n 1, 1) := dk_60 (dk_at dksX2_openAt_0 6 rfl rfl)
theorem dX2_openAt_7 : decode cX2_openAt 7 = .ok (.iload_n 1, 1) := dk_27 (dk_at dksX2_openAt_0 7 rfl rfl)
theorem dX2_openAt_8 : decode cX2_openAt 8 = .ok (.ifCond .lt 20, 3) := dk_155 0 20 (dk_at dksX2_openAt_0 8 rfl rfl)
theorem dX2_openAt_11 : decode cX2_openAt 11 = .ok (.aload_n 0, 1) := dk_42 (dk_at dksX2_openAt_0 11 rfl rfl)
theorem dX2_openAt_12 : decode cX2_openAt 12 = .ok (.getfield 29, 3) := dk_180 0 29 (dk_at dksX2_openAt_0 12 rfl rfl)
theorem dX2_openAt_15 : decode cX2_openAt 15 = .ok (.iload_n 1, 1) := dk_27 (dk_at dksX2_openAt_0 15 rfl rfl)
theorem dX2_openAt_16 : decode cX2_openAt 16 = .ok (.iaload, 1) := dk_46 (dk_at dksX2_openAt_0 16 rfl rfl)
theorem dX2_openAt_17 : decode cX2_openAt 17 = .ok (.bipush 40, 2) := dk_16 40 (dk_at dksX2_openAt_0 17 rfl rfl)
theorem dX2_openAt_19 : decode cX2_openAt 19 = .ok (.if_icmp .ge 9, 3) := dk_162 0 9 (dk_at dksX2_openAt_0 19 rfl rfl)
theorem dX2_openAt_22 : decode cX2_openAt 22 = .ok (.iinc 1 (-1), 3) := dk_132 1 255 (dk_at dksX2_openAt_1 0 rfl rfl)
theorem dX2_openAt_25 : decode cX2_openAt 25 = .ok (.goto (-18), 3) := dk_167 255 238 (dk_at dksX2_openAt_1 3 rfl rfl)
theorem dX2_openAt_28 : decode cX2_openAt 28 = .ok (.iload_n 1, 1) := dk_27 (dk_at dksX2_openAt_1 6 rfl rfl)
theorem dX2_openAt_29 : decode cX2_openAt 29 = .ok (.ireturn, 1) := dk_172 (dk_at dksX2_openAt_1 7 rfl rfl)
abbrev cX2_isCompared : ByteArray := prog_20_method_35_code
def yX2_isCompared : MethodName := ⟨RX2, "isCompared", "()Z"⟩
def dkwX2_isCompared_2 : List UInt8 := [167, 0, 4, 3, 172]
abbrev dktX2_isCompared_2 : List UInt8 := dkwX2_isCompared_2 ++ []
def dkwX2_isCompared_1 : List UInt8 := [132, 1, 255, 167, 255, 236, 27, 155, 0, 20, 42, 180, 0, 29, 27, 46, 184, 0, 149, 7, 160, 0, 7, 4]
abbrev dktX2_isCompared_1 : List UInt8 := dkwX2_isCompared_1 ++ dktX2_isCompared_2
def dkwX2_isCompared_0 : List UInt8 := [42, 180, 0, 146, 4, 100, 60, 27, 155, 0, 22, 42, 180, 0, 29, 27, 46, 184, 0, 149, 7, 164, 0, 9]
abbrev dktX2_isCompared_0 : List UInt8 := dkwX2_isCompared_0 ++ dktX2_isCompared_1
theorem dksX2_isCompared_0 : cX2_isCompared.data.toList.drop 0 = dktX2_isCompared_0 := by decide +kernel
theorem dksX2_isCompared_1 : cX2_isCompared.data.toList.drop 24 = dktX2_isCompared_1 := dk_seg dksX2_isCompared_0 24 rfl rfl
theorem dksX2_isCompared_2 : cX2_isCompared.data.toList.drop 48 = dktX2_isCompared_2 := dk_seg dksX2_isCompared_1 24 rfl rfl
theorem dX2_isCompared_0 : decode cX2_isCompared 0 = .ok (.aload_n 0, 1) := dk_42 (dk_at dksX2_isCompared_0 0 rfl rfl)
theorem dX2_isCompared_1 : decode cX2_isCompared 1 = .ok (.getfield 146, 3) := dk_180 0 146 (dk_at dksX2_isCompared_0 1 rfl rfl)
theorem dX2_isCompared_4 : decode cX2_isCompared 4 = .ok (.iconst 1, 1) := dk_4 (dk_at dksX2_isCompared_0 4 rfl rfl)
theorem dX2_isCompared_5 : decode cX2_isCompared 5 = .ok (.isub, 1) := dk_100 (dk_at dksX2_isCompared_0 5 rfl rfl)
theorem dX2_isCompared_6 : decode cX2_isCompared 6 = .ok (.istore_n 1, 1) := dk_60 (dk_at dksX2_isCompared_0 6 rfl rfl)
theorem dX2_isCompared_7 : decode cX2_isCompared 7 = .ok (.iload_n 1, 1) := dk_27 (dk_at dksX2_isCompared_0 7 rfl rfl)
theorem dX2_isCompared_8 : decode cX2_isCompared 8 = .ok (.ifCond .lt 22, 3) := dk_155 0 22 (dk_at dksX2_isCompared_0 8 rfl rfl)
theorem dX2_isCompared_11 : decode cX2_isCompared 11 = .ok (.aload_n 0, 1) := dk_42 (dk_at dksX2_isCompared_0 11 rfl rfl)
theorem dX2_isCompared_12 : decode cX2_isCompared 12 = .ok (.getfield 29, 3) := dk_180 0 29 (dk_at dksX2_isCompared_0 12 rfl rfl)
theorem dX2_isCompared_15 : decode cX2_isCompared 15 = .ok (.iload_n 1, 1) := dk_27 (dk_at dksX2_isCompared_0 15 rfl rfl)
theorem dX2_isCompared_16 : decode cX2_isCompared 16 = .ok (.iaload, 1) := dk_46 (dk_at dksX2_isCompared_0 16 rfl rfl)
theorem dX2_isCompared_17 : decode cX2_isCompared 17 = .ok (.invokestatic 149, 3) := dk_184 0 149 (dk_at dksX2_isCompared_0 17 rfl rfl)
theorem dX2_isCompared_20 : decode cX2_isCompared 20 = .ok (.iconst 4, 1) := dk_7 (dk_at dksX2_isCompared_0 20 rfl rfl)
theorem dX2_isCompared_21 : decode cX2_isCompared 21 = .ok (.if_icmp .le 9, 3) := dk_164 0 9 (dk_at dksX2_isCompared_0 21 rfl rfl)
theorem dX2_isCompared_24 : decode cX2_isCompared 24 = .ok (.iinc 1 (-1), 3) := dk_132 1 255 (dk_at dksX2_isCompared_1 0 rfl rfl)
theorem dX2_isCompared_27 : decode cX2_isCompared 27 = .ok (.goto (-20), 3) := dk_167 255 236 (dk_at dksX2_isCompared_1 3 rfl rfl)
theorem dX2_isCompared_30 : decode cX2_isCompared 30 = .ok (.iload_n 1, 1) := dk_27 (dk_at dksX2_isCompared_1 6 rfl rfl)
theorem dX2_isCompared_31 : decode cX2_isCompared 31 = .ok (.ifCond .lt 20, 3) := dk_155 0 20 (dk_at dksX2_isCompared_1 7 rfl rfl)
theorem dX2_isCompared_34 : decode cX2_isCompared 34 = .ok (.aload_n 0, 1) := dk_42 (dk_at dksX2_isCompared_1 10 rfl rfl)
theorem dX2_isCompared_35 : decode cX2_isCompared 35 = .ok (.getfield 29, 3) := dk_180 0 29 (dk_at dksX2_isCompared_1 11 rfl rfl)
theorem dX2_isCompared_38 : decode cX2_isCompared 38 = .ok (.iload_n 1, 1) := dk_27 (dk_at dksX2_isCompared_1 14 rfl rfl)
theorem dX2_isCompared_39 : decode cX2_isCompared 39 = .ok (.iaload, 1) := dk_46 (dk_at dksX2_isCompared_1 15 rfl rfl)
theorem dX2_isCompared_40 : decode cX2_isCompared 40 = .ok (.invokestatic 149, 3) := dk_184 0 149 (dk_at dksX2_isCompared_1 16 rfl rfl)
theorem dX2_isCompared_43 : decode cX2_isCompared 43 = .ok (.iconst 4, 1) := dk_7 (dk_at dksX2_isCompared_1 19 rfl rfl)
theorem dX2_isCompared_44 : decode cX2_isCompared 44 = .ok (.if_icmp .ne 7, 3) := dk_160 0 7 (dk_at dksX2_isCompared_1 20 rfl rfl)
theorem dX2_isCompared_47 : decode cX2_isCompared 47 = .ok (.iconst 1, 1) := dk_4 (dk_at dksX2_isCompared_1 23 rfl rfl)
theorem dX2_isCompared_48 : decode cX2_isCompared 48 = .ok (.goto 4, 3) := dk_167 0 4 (dk_at dksX2_isCompared_2 0 rfl rfl)
theorem dX2_isCompared_51 : decode cX2_isCompared 51 = .ok (.iconst 0, 1) := dk_3 (dk_at dksX2_isCompared_2 3 rfl rfl)
theorem dX2_isCompared_52 : decode cX2_isCompared 52 = .ok (.ireturn, 1) := dk_172 (dk_at dksX2_isCompared_2 4 rfl rfl)
abbrev cX2_rank : ByteArray := prog_20_method_31_code
def yX2_rank : MethodName := ⟨RX2, "rank", "(I)I"⟩
def dkwX2_rank_3 : List UInt8 := [16, 8, 161, 0, 8, 16, 6, 167, 0, 4, 8, 172]
abbrev dktX2_rank_3 : List UInt8 := dkwX2_rank_3 ++ []
def dkwX2_rank_2 : List UInt8 := [167, 0, 35, 26, 8, 159, 0, 13, 26, 5, 159, 0, 8, 26, 7, 160, 0, 8, 16, 7, 167, 0, 15, 26]
abbrev dktX2_rank_2 : List UInt8 := dkwX2_rank_2 ++ dktX2_rank_3
def dkwX2_rank_1 : List UInt8 := [160, 0, 7, 5, 167, 0, 55, 26, 16, 20, 160, 0, 7, 6, 167, 0, 45, 26, 16, 10, 161, 0, 7, 7]
abbrev dktX2_rank_1 : List UInt8 := dkwX2_rank_1 ++ dktX2_rank_2
def dkwX2_rank_0 : List UInt8 := [26, 16, 40, 161, 0, 7, 3, 167, 0, 75, 26, 16, 22, 160, 0, 7, 4, 167, 0, 65, 26, 16, 21]
abbrev dktX2_rank_0 : List UInt8 := dkwX2_rank_0 ++ dktX2_rank_1
theorem dksX2_rank_0 : cX2_rank.data.toList.drop 0 = dktX2_rank_0 := by decide +kernel
theorem dksX2_rank_1 : cX2_rank.data.toList.drop 23 = dktX2_rank_1 := dk_seg dksX2_rank_0 23 rfl rfl
theorem dksX2_rank_2 : cX2_rank.data.toList.drop 47 = dktX2_rank_2 := dk_seg dksX2_rank_1 24 rfl rfl
theorem dksX2_rank_3 : cX2_rank.data.toList.drop 71 = dktX2_rank_3 := dk_seg dksX2_rank_2 24 rfl rfl
theorem dX2_rank_0 : decode cX2_rank 0 = .ok (.iload_n 0, 1) := dk_26 (dk_at dksX2_rank_0 0 rfl rfl)
theorem dX2_rank_1 : decode cX2_rank 1 = .ok (.bipush 40, 2) := dk_16 40 (dk_at dksX2_rank_0 1 rfl rfl)
theorem dX2_rank_3 : decode cX2_rank 3 = .ok (.if_icmp .lt 7, 3) := dk_161 0 7 (dk_at dksX2_rank_0 3 rfl rfl)
theorem dX2_rank_6 : decode cX2_rank 6 = .ok (.iconst 0, 1) := dk_3 (dk_at dksX2_rank_0 6 rfl rfl)
theorem dX2_rank_7 : decode cX2_rank 7 = .ok (.goto 75, 3) := dk_167 0 75 (dk_at dksX2_rank_0 7 rfl rfl)
theorem dX2_rank_10 : decode cX2_rank 10 = .ok (.iload_n 0, 1) := dk_26 (dk_at dksX2_rank_0 10 rfl rfl)
theorem dX2_rank_11 : decode cX2_rank 11 = .ok (.bipush 22, 2) := dk_16 22 (dk_at dksX2_rank_0 11 rfl rfl)
theorem dX2_rank_13 : decode cX2_rank 13 = .ok (.if_icmp .ne 7, 3) := dk_160 0 7 (dk_at dksX2_rank_0 13 rfl rfl)
theorem dX2_rank_16 : decode cX2_rank 16 = .ok (.iconst 1, 1) := dk_4 (dk_at dksX2_rank_0 16 rfl rfl)
theorem dX2_rank_17 : decode cX2_rank 17 = .ok (.goto 65, 3) := dk_167 0 65 (dk_at dksX2_rank_0 17 rfl rfl)
theorem dX2_rank_20 : decode cX2_rank 20 = .ok (.iload_n 0, 1) := dk_26 (dk_at dksX2_rank_0 20 rfl rfl)
theorem dX2_rank_21 : decode cX2_rank 21 = .ok (.bipush 21, 2) := dk_16 21 (dk_at dksX2_rank_0 21 rfl rfl)
theorem dX2_rank_23 : decode cX2_rank 23 = .ok (.if_icmp .ne 7, 3) := dk_160 0 7 (dk_at dksX2_rank_1 0 rfl rfl)
theorem dX2_rank_26 : decode cX2_rank 26 = .ok (.iconst 2, 1) := dk_5 (dk_at dksX2_rank_1 3 rfl rfl)
theorem dX2_rank_27 : decode cX2_rank 27 = .ok (.goto 55, 3) := dk_167 0 55 (dk_at dksX2_rank_1 4 rfl rfl)
theorem dX2_rank_30 : decode cX2_rank 30 = .ok (.iload_n 0, 1) := dk_26 (dk_at dksX2_rank_1 7 rfl rfl)
theorem dX2_rank_31 : decode cX2_rank 31 = .ok (.bipush 20, 2) := dk_16 20 (dk_at dksX2_rank_1 8 rfl rfl)
theorem dX2_rank_33 : decode cX2_rank 33 = .ok (.if_icmp .ne 7, 3) := dk_160 0 7 (dk_at dksX2_rank_1 10 rfl rfl)
theorem dX2_rank_36 : decode cX2_rank 36 = .ok (.iconst 3, 1) := dk_6 (dk_at dksX2_rank_1 13 rfl rfl)
theorem dX2_rank_37 : decode cX2_rank 37 = .ok (.goto 45, 3) := dk_167 0 45 (dk_at dksX2_rank_1 14 rfl rfl)
theorem dX2_rank_40 : decode cX2_rank 40 = .ok (.iload_n 0, 1) := dk_26 (dk_at dksX2_rank_1 17 rfl rfl)
theorem dX2_rank_41 : decode cX2_rank 41 = .ok (.bipush 10, 2) := dk_16 10 (dk_at dksX2_rank_1 18 rfl rfl)
theorem dX2_rank_43 : decode cX2_rank 43 = .ok (.if_icmp .lt 7, 3) := dk_161 0 7 (dk_at dksX2_rank_1 20 rfl rfl)
theorem dX2_rank_46 : decode cX2_rank 46 = .ok (.iconst 4, 1) := dk_7 (dk_at dksX2_rank_1 23 rfl rfl)
theorem dX2_rank_47 : decode cX2_rank 47 = .ok (.goto 35, 3) := dk_167 0 35 (dk_at dksX2_rank_2 0 rfl rfl)
theorem dX2_rank_50 : decode cX2_rank 50 = .ok (.iload_n 0, 1) := dk_26 (dk_at dksX2_rank_2 3 rfl rfl)
theorem dX2_rank_51 : decode cX2_rank 51 = .ok (.iconst 5, 1) := dk_8 (dk_at dksX2_rank_2 4 rfl rfl)
theorem dX2_rank_52 : decode cX2_rank 52 = .ok (.if_icmp .eq 13, 3) := dk_159 0 13 (dk_at dksX2_rank_2 5 rfl rfl)
theorem dX2_rank_55 : decode cX2_rank 55 = .ok (.iload_n 0, 1) := dk_26 (dk_at dksX2_rank_2 8 rfl rfl)
theorem dX2_rank_56 : decode cX2_rank 56 = .ok (.iconst 2, 1) := dk_5 (dk_at dksX2_rank_2 9 rfl rfl)
theorem dX2_rank_57 : decode cX2_rank 57 = .ok (.if_icmp .eq 8, 3) := dk_159 0 8 (dk_at dksX2_rank_2 10 rfl rfl)
theorem dX2_rank_60 : decode cX2_rank 60 = .ok (.iload_n 0, 1) := dk_26 (dk_at dksX2_rank_2 13 rfl rfl)
theorem dX2_rank_61 : decode cX2_rank 61 = .ok (.iconst 4, 1) := dk_7 (dk_at dksX2_rank_2 14 rfl rfl)
theorem dX2_rank_62 : decode cX2_rank 62 = .ok (.if_icmp .ne 8, 3) := dk_160 0 8 (dk_at dksX2_rank_2 15 rfl rfl)
theorem dX2_rank_65 : decode cX2_rank 65 = .ok (.bipush 7, 2) := dk_16 7 (dk_at dksX2_rank_2 18 rfl rfl)
theorem dX2_rank_67 : decode cX2_rank 67 = .ok (.goto 15, 3) := dk_167 0 15 (dk_at dksX2_rank_2 20 rfl rfl)
theorem dX2_rank_70 : decode cX2_rank 70 = .ok (.iload_n 0, 1) := dk_26 (dk_at dksX2_rank_2 23 rfl rfl)
theorem dX2_rank_71 : decode cX2_rank 71 = .ok (.bipush 8, 2) := dk_16 8 (dk_at dksX2_rank_3 0 rfl rfl)
theorem dX2_rank_73 : decode cX2_rank 73 = .ok (.if_icmp .lt 8, 3) := dk_161 0 8 (dk_at dksX2_rank_3 2 rfl rfl)
theorem dX2_rank_76 : decode cX2_rank 76 = .ok (.bipush 6, 2) := dk_16 6 (dk_at dksX2_rank_3 5 rfl rfl)
theorem dX2_rank_78 : decode cX2_rank 78 = .ok (.goto 4, 3) := dk_167 0 4 (dk_at dksX2_rank_3 7 rfl rfl)
theorem dX2_rank_81 : decode cX2_rank 81 = .ok (.iconst 5, 1) := dk_8 (dk_at dksX2_rank_3 10 rfl rfl)
theorem dX2_rank_82 : decode cX2_rank 82 = .ok (.ireturn, 1) := dk_172 (dk_at dksX2_rank_3 11 rfl rfl)
abbrev cX2_compareOf : ByteArray := prog_20_method_40_code
def yX2_compareOf : MethodName := ⟨RX2, "compareOf", "()I"⟩
def dkwX2_compareOf_3 : List UInt8 := [180, 0, 98, 16, 35, 160, 0, 8, 16, 15, 167, 0, 4, 2, 172]
abbrev dktX2_compareOf_3 : List UInt8 := dkwX2_compareOf_3 ++ []
def dkwX2_compareOf_2 : List UInt8 := [160, 0, 8, 16, 13, 167, 0, 32, 42, 180, 0, 98, 16, 61, 160, 0, 8, 16, 14, 167, 0, 18, 42]
abbrev dktX2_compareOf_2 : List UInt8 := dkwX2_compareOf_2 ++ dktX2_compareOf_3
def dkwX2_compareOf_1 : List UInt8 := [167, 0, 59, 42, 180, 0, 98, 16, 62, 160, 0, 8, 16, 12, 167, 0, 45, 42, 180, 0, 98, 8]
abbrev dktX2_compareOf_1 : List UInt8 := dkwX2_compareOf_1 ++ dktX2_compareOf_2
def dkwX2_compareOf_0 : List UInt8 := [42, 180, 0, 98, 16, 60, 160, 0, 8, 16, 10, 167, 0, 72, 42, 180, 0, 98, 7, 160, 0, 8, 16, 11]
abbrev dktX2_compareOf_0 : List UInt8 := dkwX2_compareOf_0 ++ dktX2_compareOf_1
theorem dksX2_compareOf_0 : cX2_compareOf.data.toList.drop 0 = dktX2_compareOf_0 := by decide +kernel
theorem dksX2_compareOf_1 : cX2_compareOf.data.toList.drop 24 = dktX2_compareOf_1 := dk_seg dksX2_compareOf_0 24 rfl rfl
theorem dksX2_compareOf_2 : cX2_compareOf.data.toList.drop 46 = dktX2_compareOf_2 := dk_seg dksX2_compareOf_1 22 rfl rfl
theorem dksX2_compareOf_3 : cX2_compareOf.data.toList.drop 69 = dktX2_compareOf_3 := dk_seg dksX2_compareOf_2 23 rfl rfl
theorem dX2_compareOf_0 : decode cX2_compareOf 0 = .ok (.aload_n 0, 1) := dk_42 (dk_at dksX2_compareOf_0 0 rfl rfl)
theorem dX2_compareOf_1 : decode cX2_compareOf 1 = .ok (.getfield 98, 3) := dk_180 0 98 (dk_at dksX2_compareOf_0 1 rfl rfl)
theorem dX2_compareOf_4 : decode cX2_compareOf 4 = .ok (.bipush 60, 2) := dk_16 60 (dk_at dksX2_compareOf_0 4 rfl rfl)
theorem dX2_compareOf_6 : decode cX2_compareOf 6 = .ok (.if_icmp .ne 8, 3) := dk_160 0 8 (dk_at dksX2_compareOf_0 6 rfl rfl)
theorem dX2_compareOf_9 : decode cX2_compareOf 9 = .ok (.bipush 10, 2) := dk_16 10 (dk_at dksX2_compareOf_0 9 rfl rfl)
theorem dX2_compareOf_11 : decode cX2_compareOf 11 = .ok (.goto 72, 3) := dk_167 0 72 (dk_at dksX2_compareOf_0 11 rfl rfl)
theorem dX2_compareOf_14 : decode cX2_compareOf 14 = .ok (.aload_n 0, 1) := dk_42 (dk_at dksX2_compareOf_0 14 rfl rfl)
theorem dX2_compareOf_15 : decode cX2_compareOf 15 = .ok (.getfield 98, 3) := dk_180 0 98 (dk_at dksX2_compareOf_0 15 rfl rfl)
theorem dX2_compareOf_18 : decode cX2_compareOf 18 = .ok (.iconst 4, 1) := dk_7 (dk_at dksX2_compareOf_0 18 rfl rfl)
theorem dX2_compareOf_19 : decode cX2_compareOf 19 = .ok (.if_icmp .ne 8, 3) := dk_160 0 8 (dk_at dksX2_compareOf_0 19 rfl rfl)
theorem dX2_compareOf_22 : decode cX2_compareOf 22 = .ok (.bipush 11, 2) := dk_16 11 (dk_at dksX2_compareOf_0 22 rfl rfl)
theorem dX2_compareOf_24 : decode cX2_compareOf 24 = .ok (.goto 59, 3) := dk_167 0 59 (dk_at dksX2_compareOf_1 0 rfl rfl)
theorem dX2_compareOf_27 : decode cX2_compareOf 27 = .ok (.aload_n 0, 1) := dk_42 (dk_at dksX2_compareOf_1 3 rfl rfl)
theorem dX2_compareOf_28 : decode cX2_compareOf 28 = .ok (.getfield 98, 3) := dk_180 0 98 (dk_at dksX2_compareOf_1 4 rfl rfl)
theorem dX2_compareOf_31 : decode cX2_compareOf 31 = .ok (.bipush 62, 2) := dk_16 62 (dk_at dksX2_compareOf_1 7 rfl rfl)
theorem dX2_compareOf_33 : decode cX2_compareOf 33 = .ok (.if_icmp .ne 8, 3) := dk_160 0 8 (dk_at dksX2_compareOf_1 9 rfl rfl)
theorem dX2_compareOf_36 : decode cX2_compareOf 36 = .ok (.bipush 12, 2) := dk_16 12 (dk_at dksX2_compareOf_1 12 rfl rfl)
theorem dX2_compareOf_38 : decode cX2_compareOf 38 = .ok (.goto 45, 3) := dk_167 0 45 (dk_at dksX2_compareOf_1 14 rfl rfl)
theorem dX2_compareOf_41 : decode cX2_compareOf 41 = .ok (.aload_n 0, 1) := dk_42 (dk_at dksX2_compareOf_1 17 rfl rfl)
theorem dX2_compareOf_42 : decode cX2_compareOf 42 = .ok (.getfield 98, 3) := dk_180 0 98 (dk_at dksX2_compareOf_1 18 rfl rfl)
theorem dX2_compareOf_45 : decode cX2_compareOf 45 = .ok (.iconst 5, 1) := dk_8 (dk_at dksX2_compareOf_1 21 rfl rfl)
theorem dX2_compareOf_46 : decode cX2_compareOf 46 = .ok (.if_icmp .ne 8, 3) := dk_160 0 8 (dk_at dksX2_compareOf_2 0 rfl rfl)
theorem dX2_compareOf_49 : decode cX2_compareOf 49 = .ok (.bipush 13, 2) := dk_16 13 (dk_at dksX2_compareOf_2 3 rfl rfl)
theorem dX2_compareOf_51 : decode cX2_compareOf 51 = .ok (.goto 32, 3) := dk_167 0 32 (dk_at dksX2_compareOf_2 5 rfl rfl)
theorem dX2_compareOf_54 : decode cX2_compareOf 54 = .ok (.aload_n 0, 1) := dk_42 (dk_at dksX2_compareOf_2 8 rfl rfl)
theorem dX2_compareOf_55 : decode cX2_compareOf 55 = .ok (.getfield 98, 3) := dk_180 0 98 (dk_at dksX2_compareOf_2 9 rfl rfl)
theorem dX2_compareOf_58 : decode cX2_compareOf 58 = .ok (.bipush 61, 2) := dk_16 61 (dk_at dksX2_compareOf_2 12 rfl rfl)
theorem dX2_compareOf_60 : decode cX2_compareOf 60 = .ok (.if_icmp .ne 8, 3) := dk_160 0 8 (dk_at dksX2_compareOf_2 14 rfl rfl)
theorem dX2_compareOf_63 : decode cX2_compareOf 63 = .ok (.bipush 14, 2) := dk_16 14 (dk_at dksX2_compareOf_2 17 rfl rfl)
theorem dX2_compareOf_65 : decode cX2_compareOf 65 = .ok (.goto 18, 3) := dk_167 0 18 (dk_at dksX2_compareOf_2 19 rfl rfl)
theorem dX2_compareOf_68 : decode cX2_compareOf 68 = .ok (.aload_n 0, 1) := dk_42 (dk_at dksX2_compareOf_2 22 rfl rfl)
theorem dX2_compareOf_69 : decode cX2_compareOf 69 = .ok (.getfield 98, 3) := dk_180 0 98 (dk_at dksX2_compareOf_3 0 rfl rfl)
theorem dX2_compareOf_72 : decode cX2_compareOf 72 = .ok (.bipush 35, 2) := dk_16 35 (dk_at dksX2_compareOf_3 3 rfl rfl)
theorem dX2_compareOf_74 : decode cX2_compareOf 74 = .ok (.if_icmp .ne 8, 3) := dk_160 0 8 (dk_at dksX2_compareOf_3 5 rfl rfl)
theorem dX2_compareOf_77 : decode cX2_compareOf 77 = .ok (.bipush 15, 2) := dk_16 15 (dk_at dksX2_compareOf_3 8 rfl rfl)
theorem dX2_compareOf_79 : decode cX2_compareOf 79 = .ok (.goto 4, 3) := dk_167 0 4 (dk_at dksX2_compareOf_3 10 rfl rfl)
theorem dX2_compareOf_82 : decode cX2_compareOf 82 = .ok (.iconst (-1), 1) := dk_2 (dk_at dksX2_compareOf_3 13 rfl rfl)
theorem dX2_compareOf_83 : decode cX2_compareOf 83 = .ok (.ireturn, 1) := dk_172 (dk_at dksX2_compareOf_3 14 rfl rfl)
abbrev cX2_settle : ByteArray := prog_20_method_32_code
def yX2_settle : MethodName := ⟨RX2, "settle", "(I)V"⟩
def dkwX2_settle_3 : List UInt8 := [42, 180, 0, 146, 46, 16, 20, 160, 255, 179, 42, 89, 180, 0, 155, 4, 100, 181, 0, 155, 167, 255, 166, 177]
abbrev dktX2_settle_3 : List UInt8 := dkwX2_settle_3 ++ []
def dkwX2_settle_2 : List UInt8 := [182, 0, 152, 42, 180, 0, 29, 42, 180, 0, 146, 46, 184, 0, 149, 16, 7, 159, 0, 17, 42, 180, 0, 29]
abbrev dktX2_settle_2 : List UInt8 := dkwX2_settle_2 ++ dktX2_settle_3
def dkwX2_settle_1 : List UInt8 := [161, 0, 71, 42, 89, 180, 0, 146, 4, 100, 181, 0, 146, 42, 42, 180, 0, 29, 42, 180, 0, 146, 46, 3]
abbrev dktX2_settle_1 : List UInt8 := dkwX2_settle_1 ++ dktX2_settle_2
def dkwX2_settle_0 : List UInt8 := [42, 180, 0, 146, 158, 0, 89, 42, 180, 0, 29, 42, 180, 0, 146, 4, 100, 46, 184, 0, 149, 27]
abbrev dktX2_settle_0 : List UInt8 := dkwX2_settle_0 ++ dktX2_settle_1
theorem dksX2_settle_0 : cX2_settle.data.toList.drop 0 = dktX2_settle_0 := by decide +kernel
theorem dksX2_settle_1 : cX2_settle.data.toList.drop 22 = dktX2_settle_1 := dk_seg dksX2_settle_0 22 rfl rfl
theorem dksX2_settle_2 : cX2_settle.data.toList.drop 46 = dktX2_settle_2 := dk_seg dksX2_settle_1 24 rfl rfl
theorem dksX2_settle_3 : cX2_settle.data.toList.drop 70 = dktX2_settle_3 := dk_seg dksX2_settle_2 24 rfl rfl
theorem dX2_settle_0 : decode cX2_settle 0 = .ok (.aload_n 0, 1) := dk_42 (dk_at dksX2_settle_0 0 rfl rfl)
theorem dX2_settle_1 : decode cX2_settle 1 = .ok (.getfield 146, 3) := dk_180 0 146 (dk_at dksX2_settle_0 1 rfl rfl)
theorem dX2_settle_4 : decode cX2_settle 4 = .ok (.ifCond .le 89, 3) := dk_158 0 89 (dk_at dksX2_settle_0 4 rfl rfl)
theorem dX2_settle_7 : decode cX2_settle 7 = .ok (.aload_n 0, 1) := dk_42 (dk_at dksX2_settle_0 7 rfl rfl)
theorem dX2_settle_8 : decode cX2_settle 8 = .ok (.getfield 29, 3) := dk_180 0 29 (dk_at dksX2_settle_0 8 rfl rfl)
theorem dX2_settle_11 : decode cX2_settle 11 = .ok (.aload_n 0, 1) := dk_42 (dk_at dksX2_settle_0 11 rfl rfl)
theorem dX2_settle_12 : decode cX2_settle 12 = .ok (.getfield 146, 3) := dk_180 0 146 (dk_at dksX2_settle_0 12 rfl rfl)
theorem dX2_settle_15 : decode cX2_settle 15 = .ok (.iconst 1, 1) := dk_4 (dk_at dksX2_settle_0 15 rfl rfl)
theorem dX2_settle_16 : decode cX2_settle 16 = .ok (.isub, 1) := dk_100 (dk_at dksX2_settle_0 16 rfl rfl)
theorem dX2_settle_17 : decode cX2_settle 17 = .ok (.iaload, 1) := dk_46 (dk_at dksX2_settle_0 17 rfl rfl)
theorem dX2_settle_18 : decode cX2_settle 18 = .ok (.invokestatic 149, 3) := dk_184 0 149 (dk_at dksX2_settle_0 18 rfl rfl)
theorem dX2_settle_21 : decode cX2_settle 21 = .ok (.iload_n 1, 1) := dk_27 (dk_at dksX2_settle_0 21 rfl rfl)
theorem dX2_settle_22 : decode cX2_settle 22 = .ok (.if_icmp .lt 71, 3) := dk_161 0 71 (dk_at dksX2_settle_1 0 rfl rfl)
theorem dX2_settle_25 : decode cX2_settle 25 = .ok (.aload_n 0, 1) := dk_42 (dk_at dksX2_settle_1 3 rfl rfl)
theorem dX2_settle_26 : decode cX2_settle 26 = .ok (.dup, 1) := dk_89 (dk_at dksX2_settle_1 4 rfl rfl)
theorem dX2_settle_27 : decode cX2_settle 27 = .ok (.getfield 146, 3) := dk_180 0 146 (dk_at dksX2_settle_1 5 rfl rfl)
theorem dX2_settle_30 : decode cX2_settle 30 = .ok (.iconst 1, 1) := dk_4 (dk_at dksX2_settle_1 8 rfl rfl)
theorem dX2_settle_31 : decode cX2_settle 31 = .ok (.isub, 1) := dk_100 (dk_at dksX2_settle_1 9 rfl rfl)
theorem dX2_settle_32 : decode cX2_settle 32 = .ok (.putfield 146, 3) := dk_181 0 146 (dk_at dksX2_settle_1 10 rfl rfl)
theorem dX2_settle_35 : decode cX2_settle 35 = .ok (.aload_n 0, 1) := dk_42 (dk_at dksX2_settle_1 13 rfl rfl)
theorem dX2_settle_36 : decode cX2_settle 36 = .ok (.aload_n 0, 1) := dk_42 (dk_at dksX2_settle_1 14 rfl rfl)
theorem dX2_settle_37 : decode cX2_settle 37 = .ok (.getfield 29, 3) := dk_180 0 29 (dk_at dksX2_settle_1 15 rfl rfl)
theorem dX2_settle_40 : decode cX2_settle 40 = .ok (.aload_n 0, 1) := dk_42 (dk_at dksX2_settle_1 18 rfl rfl)
theorem dX2_settle_41 : decode cX2_settle 41 = .ok (.getfield 146, 3) := dk_180 0 146 (dk_at dksX2_settle_1 19 rfl rfl)
theorem dX2_settle_44 : decode cX2_settle 44 = .ok (.iaload, 1) := dk_46 (dk_at dksX2_settle_1 22 rfl rfl)
theorem dX2_settle_45 : decode cX2_settle 45 = .ok (.iconst 0, 1) := dk_3 (dk_at dksX2_settle_1 23 rfl rfl)
theorem dX2_settle_46 : decode cX2_settle 46 = .ok (.invokevirtual 152, 3) := dk_182 0 152 (dk_at dksX2_settle_2 0 rfl rfl)
theorem dX2_settle_49 : decode cX2_settle 49 = .ok (.aload_n 0, 1) := dk_42 (dk_at dksX2_settle_2 3 rfl rfl)
theorem dX2_settle_50 : decode cX2_settle 50 = .ok (.getfield 29, 3) := dk_180 0 29 (dk_at dksX2_settle_2 4 rfl rfl)
theorem dX2_settle_53 : decode cX2_settle 53 = .ok (.aload_n 0, 1) := dk_42 (dk_at dksX2_settle_2 7 rfl rfl)
theorem dX2_settle_54 : decode cX2_settle 54 = .ok (.getfield 146, 3) := dk_180 0 146 (dk_at dksX2_settle_2 8 rfl rfl)
theorem dX2_settle_57 : decode cX2_settle 57 = .ok (.iaload, 1) := dk_46 (dk_at dksX2_settle_2 11 rfl rfl)
theorem dX2_settle_58 : decode cX2_settle 58 = .ok (.invokestatic 149, 3) := dk_184 0 149 (dk_at dksX2_settle_2 12 rfl rfl)
theorem dX2_settle_61 : decode cX2_settle 61 = .ok (.bipush 7, 2) := dk_16 7 (dk_at dksX2_settle_2 15 rfl rfl)
theorem dX2_settle_63 : decode cX2_settle 63 = .ok (.if_icmp .eq 17, 3) := dk_159 0 17 (dk_at dksX2_settle_2 17 rfl rfl)
theorem dX2_settle_66 : decode cX2_settle 66 = .ok (.aload_n 0, 1) := dk_42 (dk_at dksX2_settle_2 20 rfl rfl)
theorem dX2_settle_67 : decode cX2_settle 67 = .ok (.getfield 29, 3) := dk_180 0 29 (dk_at dksX2_settle_2 21 rfl rfl)
theorem dX2_settle_70 : decode cX2_settle 70 = .ok (.aload_n 0, 1) := dk_42 (dk_at dksX2_settle_3 0 rfl rfl)
theorem dX2_settle_71 : decode cX2_settle 71 = .ok (.getfield 146, 3) := dk_180 0 146 (dk_at dksX2_settle_3 1 rfl rfl)
theorem dX2_settle_74 : decode cX2_settle 74 = .ok (.iaload, 1) := dk_46 (dk_at dksX2_settle_3 4 rfl rfl)
theorem dX2_settle_75 : decode cX2_settle 75 = .ok (.bipush 20, 2) := dk_16 20 (dk_at dksX2_settle_3 5 rfl rfl)
theorem dX2_settle_77 : decode cX2_settle 77 = .ok (.if_icmp .ne (-77), 3) := dk_160 255 179 (dk_at dksX2_settle_3 7 rfl rfl)
theorem dX2_settle_80 : decode cX2_settle 80 = .ok (.aload_n 0, 1) := dk_42 (dk_at dksX2_settle_3 10 rfl rfl)
theorem dX2_settle_81 : decode cX2_settle 81 = .ok (.dup, 1) := dk_89 (dk_at dksX2_settle_3 11 rfl rfl)
theorem dX2_settle_82 : decode cX2_settle 82 = .ok (.getfield 155, 3) := dk_180 0 155 (dk_at dksX2_settle_3 12 rfl rfl)
theorem dX2_settle_85 : decode cX2_settle 85 = .ok (.iconst 1, 1) := dk_4 (dk_at dksX2_settle_3 15 rfl rfl)
theorem dX2_settle_86 : decode cX2_settle 86 = .ok (.isub, 1) := dk_100 (dk_at dksX2_settle_3 16 rfl rfl)
theorem dX2_settle_87 : decode cX2_settle 87 = .ok (.putfield 155, 3) := dk_181 0 155 (dk_at dksX2_settle_3 17 rfl rfl)
theorem dX2_settle_90 : decode cX2_settle 90 = .ok (.goto (-90), 3) := dk_167 255 166 (dk_at dksX2_settle_3 20 rfl rfl)
theorem dX2_settle_93 : decode cX2_settle 93 = .ok (.return_, 1) := dk_177 (dk_at dksX2_settle_3 23 rfl rfl)
abbrev cX2_emit : ByteArray := prog_20_method_28_code
def yX2_emit : MethodName := ⟨RX2, "emit", "(II)V"⟩
def dkwX2_emit_2 : List UInt8 := [96, 181, 0, 139, 177]
abbrev dktX2_emit_2 : List UInt8 := dkwX2_emit_2 ++ []
def dkwX2_emit_1 : List UInt8 := [42, 180, 0, 136, 16, 73, 96, 5, 42, 180, 0, 139, 104, 96, 4, 96, 28, 79, 42, 89, 180, 0, 139, 4]
abbrev dktX2_emit_1 : List UInt8 := dkwX2_emit_1 ++ dktX2_emit_2
def dkwX2_emit_0 : List UInt8 := [42, 180, 0, 16, 42, 180, 0, 136, 16, 73, 96, 5, 42, 180, 0, 139, 104, 96, 27, 79, 42, 180, 0, 16]
abbrev dktX2_emit_0 : List UInt8 := dkwX2_emit_0 ++ dktX2_emit_1
theorem dksX2_emit_0 : cX2_emit.data.toList.drop 0 = dktX2_emit_0 := by decide +kernel
theorem dksX2_emit_1 : cX2_emit.data.toList.drop 24 = dktX2_emit_1 := dk_seg dksX2_emit_0 24 rfl rfl
theorem dksX2_emit_2 : cX2_emit.data.toList.drop 48 = dktX2_emit_2 := dk_seg dksX2_emit_1 24 rfl rfl
theorem dX2_emit_0 : decode cX2_emit 0 = .ok (.aload_n 0, 1) := dk_42 (dk_at dksX2_emit_0 0 rfl rfl)
theorem dX2_emit_1 : decode cX2_emit 1 = .ok (.getfield 16, 3) := dk_180 0 16 (dk_at dksX2_emit_0 1 rfl rfl)
theorem dX2_emit_4 : decode cX2_emit 4 = .ok (.aload_n 0, 1) := dk_42 (dk_at dksX2_emit_0 4 rfl rfl)
theorem dX2_emit_5 : decode cX2_emit 5 = .ok (.getfield 136, 3) := dk_180 0 136 (dk_at dksX2_emit_0 5 rfl rfl)
theorem dX2_emit_8 : decode cX2_emit 8 = .ok (.bipush 73, 2) := dk_16 73 (dk_at dksX2_emit_0 8 rfl rfl)
theorem dX2_emit_10 : decode cX2_emit 10 = .ok (.iadd, 1) := dk_96 (dk_at dksX2_emit_0 10 rfl rfl)
theorem dX2_emit_11 : decode cX2_emit 11 = .ok (.iconst 2, 1) := dk_5 (dk_at dksX2_emit_0 11 rfl rfl)
theorem dX2_emit_12 : decode cX2_emit 12 = .ok (.aload_n 0, 1) := dk_42 (dk_at dksX2_emit_0 12 rfl rfl)
theorem dX2_emit_13 : decode cX2_emit 13 = .ok (.getfield 139, 3) := dk_180 0 139 (dk_at dksX2_emit_0 13 rfl rfl)
theorem dX2_emit_16 : decode cX2_emit 16 = .ok (.imul, 1) := dk_104 (dk_at dksX2_emit_0 16 rfl rfl)
theorem dX2_emit_17 : decode cX2_emit 17 = .ok (.iadd, 1) := dk_96 (dk_at dksX2_emit_0 17 rfl rfl)
theorem dX2_emit_18 : decode cX2_emit 18 = .ok (.iload_n 1, 1) := dk_27 (dk_at dksX2_emit_0 18 rfl rfl)
theorem dX2_emit_19 : decode cX2_emit 19 = .ok (.iastore, 1) := dk_79 (dk_at dksX2_emit_0 19 rfl rfl)
theorem dX2_emit_20 : decode cX2_emit 20 = .ok (.aload_n 0, 1) := dk_42 (dk_at dksX2_emit_0 20 rfl rfl)
theorem dX2_emit_21 : decode cX2_emit 21 = .ok (.getfield 16, 3) := dk_180 0 16 (dk_at dksX2_emit_0 21 rfl rfl)
theorem dX2_emit_24 : decode cX2_emit 24 = .ok (.aload_n 0, 1) := dk_42 (dk_at dksX2_emit_1 0 rfl rfl)
theorem dX2_emit_25 : decode cX2_emit 25 = .ok (.getfield 136, 3) := dk_180 0 136 (dk_at dksX2_emit_1 1 rfl rfl)
theorem dX2_emit_28 : decode cX2_emit 28 = .ok (.bipush 73, 2) := dk_16 73 (dk_at dksX2_emit_1 4 rfl rfl)
theorem dX2_emit_30 : decode cX2_emit 30 = .ok (.iadd, 1) := dk_96 (dk_at dksX2_emit_1 6 rfl rfl)
theorem dX2_emit_31 : decode cX2_emit 31 = .ok (.iconst 2, 1) := dk_5 (dk_at dksX2_emit_1 7 rfl rfl)
theorem dX2_emit_32 : decode cX2_emit 32 = .ok (.aload_n 0, 1) := dk_42 (dk_at dksX2_emit_1 8 rfl rfl)
theorem dX2_emit_33 : decode cX2_emit 33 = .ok (.getfield 139, 3) := dk_180 0 139 (dk_at dksX2_emit_1 9 rfl rfl)
theorem dX2_emit_36 : decode cX2_emit 36 = .ok (.imul, 1) := dk_104 (dk_at dksX2_emit_1 12 rfl rfl)
theorem dX2_emit_37 : decode cX2_emit 37 = .ok (.iadd, 1) := dk_96 (dk_at dksX2_emit_1 13 rfl rfl)
theorem dX2_emit_38 : decode cX2_emit 38 = .ok (.iconst 1, 1) := dk_4 (dk_at dksX2_emit_1 14 rfl rfl)
theorem dX2_emit_39 : decode cX2_emit 39 = .ok (.iadd, 1) := dk_96 (dk_at dksX2_emit_1 15 rfl rfl)
theorem dX2_emit_40 : decode cX2_emit 40 = .ok (.iload_n 2, 1) := dk_28 (dk_at dksX2_emit_1 16 rfl rfl)
theorem dX2_emit_41 : decode cX2_emit 41 = .ok (.iastore, 1) := dk_79 (dk_at dksX2_emit_1 17 rfl rfl)
theorem dX2_emit_42 : decode cX2_emit 42 = .ok (.aload_n 0, 1) := dk_42 (dk_at dksX2_emit_1 18 rfl rfl)
theorem dX2_emit_43 : decode cX2_emit 43 = .ok (.dup, 1) := dk_89 (dk_at dksX2_emit_1 19 rfl rfl)
theorem dX2_emit_44 : decode cX2_emit 44 = .ok (.getfield 139, 3) := dk_180 0 139 (dk_at dksX2_emit_1 20 rfl rfl)
theorem dX2_emit_47 : decode cX2_emit 47 = .ok (.iconst 1, 1) := dk_4 (dk_at dksX2_emit_1 23 rfl rfl)
theorem dX2_emit_48 : decode cX2_emit 48 = .ok (.iadd, 1) := dk_96 (dk_at dksX2_emit_2 0 rfl rfl)
theorem dX2_emit_49 : decode cX2_emit 49 = .ok (.putfield 139, 3) := dk_181 0 139 (dk_at dksX2_emit_2 1 rfl rfl)
theorem dX2_emit_52 : decode cX2_emit 52 = .ok (.return_, 1) := dk_177 (dk_at dksX2_emit_2 4 rfl rfl)
abbrev cX2_partOf : ByteArray := prog_20_method_42_code
def yX2_partOf : MethodName := ⟨RX2, "partOf", "(I)I"⟩
def dkwX2_partOf_5 : List UInt8 := [42, 16, 101, 16, 110, 16, 100, 184, 0, 124, 182, 0, 180, 153, 0, 7, 3, 167, 0, 4, 2, 172, 2, 172]
abbrev dktX2_partOf_5 : List UInt8 := dkwX2_partOf_5 ++ []
def dkwX2_partOf_4 : List UInt8 := [16, 101, 16, 108, 16, 115, 16, 101, 184, 0, 128, 182, 0, 180, 153, 0, 8, 16, 44, 167, 0, 4, 2, 172]
abbrev dktX2_partOf_4 : List UInt8 := dkwX2_partOf_4 ++ dktX2_partOf_5
def dkwX2_partOf_3 : List UInt8 := [184, 0, 128, 182, 0, 180, 153, 0, 15, 42, 182, 0, 194, 153, 0, 8, 16, 43, 167, 0, 4, 2, 172, 42]
abbrev dktX2_partOf_3 : List UInt8 := dkwX2_partOf_3 ++ dktX2_partOf_4
def dkwX2_partOf_2 : List UInt8 := [42, 180, 0, 98, 16, 41, 160, 0, 7, 3, 167, 0, 4, 2, 172, 42, 16, 116, 16, 104, 16, 101, 16, 110]
abbrev dktX2_partOf_2 : List UInt8 := dkwX2_partOf_2 ++ dktX2_partOf_3
def dkwX2_partOf_1 : List UInt8 := [170, 0, 0, 0, 0, 0, 129, 0, 0, 0, 40, 0, 0, 0, 44, 0, 0, 0, 35, 0, 0, 0, 129, 0, 0, 0, 50, 0, 0, 0, 82, 0, 0, 0, 107]
abbrev dktX2_partOf_1 : List UInt8 := dkwX2_partOf_1 ++ dktX2_partOf_2
def dkwX2_partOf_0 : List UInt8 := [27]
abbrev dktX2_partOf_0 : List UInt8 := dkwX2_partOf_0 ++ dktX2_partOf_1
theorem dksX2_partOf_0 : cX2_partOf.data.toList.drop 0 = dktX2_partOf_0 := by decide +kernel
theorem dksX2_partOf_1 : cX2_partOf.data.toList.drop 1 = dktX2_partOf_1 := dk_seg dksX2_partOf_0 1 rfl rfl
theorem dksX2_partOf_2 : cX2_partOf.data.toList.drop 36 = dktX2_partOf_2 := dk_seg dksX2_partOf_1 35 rfl rfl
theorem dksX2_partOf_3 : cX2_partOf.data.toList.drop 60 = dktX2_partOf_3 := dk_seg dksX2_partOf_2 24 rfl rfl
theorem dksX2_partOf_4 : cX2_partOf.data.toList.drop 84 = dktX2_partOf_4 := dk_seg dksX2_partOf_3 24 rfl rfl
theorem dksX2_partOf_5 : cX2_partOf.data.toList.drop 108 = dktX2_partOf_5 := dk_seg dksX2_partOf_4 24 rfl rfl
theorem dX2_partOf_0 : decode cX2_partOf 0 = .ok (.iload_n 1, 1) := dk_27 (dk_at dksX2_partOf_0 0 rfl rfl)
theorem dX2_partOf_1 : decode cX2_partOf 1 = .ok (.tableswitch 129 40 44 #[35, 129, 50, 82, 107], 35) := by decide +kernel
theorem dX2_partOf_36 : decode cX2_partOf 36 = .ok (.aload_n 0, 1) := dk_42 (dk_at dksX2_partOf_2 0 rfl rfl)
theorem dX2_partOf_37 : decode cX2_partOf 37 = .ok (.getfield 98, 3) := dk_180 0 98 (dk_at dksX2_partOf_2 1 rfl rfl)
theorem dX2_partOf_40 : decode cX2_partOf 40 = .ok (.bipush 41, 2) := dk_16 41 (dk_at dksX2_partOf_2 4 rfl rfl)
theorem dX2_partOf_42 : decode cX2_partOf 42 = .ok (.if_icmp .ne 7, 3) := dk_160 0 7 (dk_at dksX2_partOf_2 6 rfl rfl)
theorem dX2_partOf_45 : decode cX2_partOf 45 = .ok (.iconst 0, 1) := dk_3 (dk_at dksX2_partOf_2 9 rfl rfl)
theorem dX2_partOf_46 : decode cX2_partOf 46 = .ok (.goto 4, 3) := dk_167 0 4 (dk_at dksX2_partOf_2 10 rfl rfl)
theorem dX2_partOf_49 : decode cX2_partOf 49 = .ok (.iconst (-1), 1) := dk_2 (dk_at dksX2_partOf_2 13 rfl rfl)
theorem dX2_partOf_50 : decode cX2_partOf 50 = .ok (.ireturn, 1) := dk_172 (dk_at dksX2_partOf_2 14 rfl rfl)
theorem dX2_partOf_51 : decode cX2_partOf 51 = .ok (.aload_n 0, 1) := dk_42 (dk_at dksX2_partOf_2 15 rfl rfl)
theorem dX2_partOf_52 : decode cX2_partOf 52 = .ok (.bipush 116, 2) := dk_16 116 (dk_at dksX2_partOf_2 16 rfl rfl)
theorem dX2_partOf_54 : decode cX2_partOf 54 = .ok (.bipush 104, 2) := dk_16 104 (dk_at dksX2_partOf_2 18 rfl rfl)
theorem dX2_partOf_56 : decode cX2_partOf 56 = .ok (.bipush 101, 2) := dk_16 101 (dk_at dksX2_partOf_2 20 rfl rfl)
theorem dX2_partOf_58 : decode cX2_partOf 58 = .ok (.bipush 110, 2) := dk_16 110 (dk_at dksX2_partOf_2 22 rfl rfl)
theorem dX2_partOf_60 : decode cX2_partOf 60 = .ok (.invokestatic 128, 3) := dk_184 0 128 (dk_at dksX2_partOf_3 0 rfl rfl)
theorem dX2_partOf_63 : decode cX2_partOf 63 = .ok (.invokevirtual 180, 3) := dk_182 0 180 (dk_at dksX2_partOf_3 3 rfl rfl)
theorem dX2_partOf_66 : decode cX2_partOf 66 = .ok (.ifCond .eq 15, 3) := dk_153 0 15 (dk_at dksX2_partOf_3 6 rfl rfl)
theorem dX2_partOf_69 : decode cX2_partOf 69 = .ok (.aload_n 0, 1) := dk_42 (dk_at dksX2_partOf_3 9 rfl rfl)
theorem dX2_partOf_70 : decode cX2_partOf 70 = .ok (.invokevirtual 194, 3) := dk_182 0 194 (dk_at dksX2_partOf_3 10 rfl rfl)
theorem dX2_partOf_73 : decode cX2_partOf 73 = .ok (.ifCond .eq 8, 3) := dk_153 0 8 (dk_at dksX2_partOf_3 13 rfl rfl)
theorem dX2_partOf_76 : decode cX2_partOf 76 = .ok (.bipush 43, 2) := dk_16 43 (dk_at dksX2_partOf_3 16 rfl rfl)
theorem dX2_partOf_78 : decode cX2_partOf 78 = .ok (.goto 4, 3) := dk_167 0 4 (dk_at dksX2_partOf_3 18 rfl rfl)
theorem dX2_partOf_81 : decode cX2_partOf 81 = .ok (.iconst (-1), 1) := dk_2 (dk_at dksX2_partOf_3 21 rfl rfl)
theorem dX2_partOf_82 : decode cX2_partOf 82 = .ok (.ireturn, 1) := dk_172 (dk_at dksX2_partOf_3 22 rfl rfl)
theorem dX2_partOf_83 : decode cX2_partOf 83 = .ok (.aload_n 0, 1) := dk_42 (dk_at dksX2_partOf_3 23 rfl rfl)
theorem dX2_partOf_84 : decode cX2_partOf 84 = .ok (.bipush 101, 2) := dk_16 101 (dk_at dksX2_partOf_4 0 rfl rfl)
theorem dX2_partOf_86 : decode cX2_partOf 86 = .ok (.bipush 108, 2) := dk_16 108 (dk_at dksX2_partOf_4 2 rfl rfl)
theorem dX2_partOf_88 : decode cX2_partOf 88 = .ok (.bipush 115, 2) := dk_16 115 (dk_at dksX2_partOf_4 4 rfl rfl)
theorem dX2_partOf_90 : decode cX2_partOf 90 = .ok (.bipush 101, 2) := dk_16 101 (dk_at dksX2_partOf_4 6 rfl rfl)
theorem dX2_partOf_92 : decode cX2_partOf 92 = .ok (.invokestatic 128, 3) := dk_184 0 128 (dk_at dksX2_partOf_4 8 rfl rfl)
theorem dX2_partOf_95 : decode cX2_partOf 95 = .ok (.invokevirtual 180, 3) := dk_182 0 180 (dk_at dksX2_partOf_4 11 rfl rfl)
theorem dX2_partOf_98 : decode cX2_partOf 98 = .ok (.ifCond .eq 8, 3) := dk_153 0 8 (dk_at dksX2_partOf_4 14 rfl rfl)
theorem dX2_partOf_101 : decode cX2_partOf 101 = .ok (.bipush 44, 2) := dk_16 44 (dk_at dksX2_partOf_4 17 rfl rfl)
theorem dX2_partOf_103 : decode cX2_partOf 103 = .ok (.goto 4, 3) := dk_167 0 4 (dk_at dksX2_partOf_4 19 rfl rfl)
theorem dX2_partOf_106 : decode cX2_partOf 106 = .ok (.iconst (-1), 1) := dk_2 (dk_at dksX2_partOf_4 22 rfl rfl)
theorem dX2_partOf_107 : decode cX2_partOf 107 = .ok (.ireturn, 1) := dk_172 (dk_at dksX2_partOf_4 23 rfl rfl)
theorem dX2_partOf_108 : decode cX2_partOf 108 = .ok (.aload_n 0, 1) := dk_42 (dk_at dksX2_partOf_5 0 rfl rfl)
theorem dX2_partOf_109 : decode cX2_partOf 109 = .ok (.bipush 101, 2) := dk_16 101 (dk_at dksX2_partOf_5 1 rfl rfl)
theorem dX2_partOf_111 : decode cX2_partOf 111 = .ok (.bipush 110, 2) := dk_16 110 (dk_at dksX2_partOf_5 3 rfl rfl)
theorem dX2_partOf_113 : decode cX2_partOf 113 = .ok (.bipush 100, 2) := dk_16 100 (dk_at dksX2_partOf_5 5 rfl rfl)
theorem dX2_partOf_115 : decode cX2_partOf 115 = .ok (.invokestatic 124, 3) := dk_184 0 124 (dk_at dksX2_partOf_5 7 rfl rfl)
theorem dX2_partOf_118 : decode cX2_partOf 118 = .ok (.invokevirtual 180, 3) := dk_182 0 180 (dk_at dksX2_partOf_5 10 rfl rfl)
theorem dX2_partOf_121 : decode cX2_partOf 121 = .ok (.ifCond .eq 7, 3) := dk_153 0 7 (dk_at dksX2_partOf_5 13 rfl rfl)
theorem dX2_partOf_124 : decode cX2_partOf 124 = .ok (.iconst 0, 1) := dk_3 (dk_at dksX2_partOf_5 16 rfl rfl)
theorem dX2_partOf_125 : decode cX2_partOf 125 = .ok (.goto 4, 3) := dk_167 0 4 (dk_at dksX2_partOf_5 17 rfl rfl)
theorem dX2_partOf_128 : decode cX2_partOf 128 = .ok (.iconst (-1), 1) := dk_2 (dk_at dksX2_partOf_5 20 rfl rfl)
theorem dX2_partOf_129 : decode cX2_partOf 129 = .ok (.ireturn, 1) := dk_172 (dk_at dksX2_partOf_5 21 rfl rfl)
theorem dX2_partOf_130 : decode cX2_partOf 130 = .ok (.iconst (-1), 1) := dk_2 (dk_at dksX2_partOf_5 22 rfl rfl)
theorem dX2_partOf_131 : decode cX2_partOf 131 = .ok (.ireturn, 1) := dk_172 (dk_at dksX2_partOf_5 23 rfl rfl)
abbrev cX2_endOne : ByteArray := prog_20_method_39_code
def yX2_endOne : MethodName := ⟨RX2, "endOne", "()I"⟩
def dkwX2_endOne_3 : List UInt8 := [181, 0, 191, 3, 172]
abbrev dktX2_endOne_3 : List UInt8 := dkwX2_endOne_3 ++ []
def dkwX2_endOne_2 : List UInt8 := [154, 0, 5, 4, 172, 42, 182, 0, 165, 42, 180, 0, 29, 42, 180, 0, 146, 4, 100, 7, 79, 42, 3]
abbrev dktX2_endOne_2 : List UInt8 := dkwX2_endOne_2 ++ dktX2_endOne_3
def dkwX2_endOne_1 : List UInt8 := [180, 0, 146, 4, 100, 46, 16, 41, 159, 0, 5, 3, 172, 42, 16, 111, 16, 102, 184, 0, 120, 182, 0, 180]
abbrev dktX2_endOne_1 : List UInt8 := dkwX2_endOne_1 ++ dktX2_endOne_2
def dkwX2_endOne_0 : List UInt8 := [42, 16, 7, 182, 0, 188, 42, 4, 181, 0, 191, 42, 180, 0, 146, 153, 0, 19, 42, 180, 0, 29, 42]
abbrev dktX2_endOne_0 : List UInt8 := dkwX2_endOne_0 ++ dktX2_endOne_1
theorem dksX2_endOne_0 : cX2_endOne.data.toList.drop 0 = dktX2_endOne_0 := by decide +kernel
theorem dksX2_endOne_1 : cX2_endOne.data.toList.drop 23 = dktX2_endOne_1 := dk_seg dksX2_endOne_0 23 rfl rfl
theorem dksX2_endOne_2 : cX2_endOne.data.toList.drop 47 = dktX2_endOne_2 := dk_seg dksX2_endOne_1 24 rfl rfl
theorem dksX2_endOne_3 : cX2_endOne.data.toList.drop 70 = dktX2_endOne_3 := dk_seg dksX2_endOne_2 23 rfl rfl
theorem dX2_endOne_0 : decode cX2_endOne 0 = .ok (.aload_n 0, 1) := dk_42 (dk_at dksX2_endOne_0 0 rfl rfl)
theorem dX2_endOne_1 : decode cX2_endOne 1 = .ok (.bipush 7, 2) := dk_16 7 (dk_at dksX2_endOne_0 1 rfl rfl)
theorem dX2_endOne_3 : decode cX2_endOne 3 = .ok (.invokevirtual 188, 3) := dk_182 0 188 (dk_at dksX2_endOne_0 3 rfl rfl)
theorem dX2_endOne_6 : decode cX2_endOne 6 = .ok (.aload_n 0, 1) := dk_42 (dk_at dksX2_endOne_0 6 rfl rfl)
theorem dX2_endOne_7 : decode cX2_endOne 7 = .ok (.iconst 1, 1) := dk_4 (dk_at dksX2_endOne_0 7 rfl rfl)
theorem dX2_endOne_8 : decode cX2_endOne 8 = .ok (.putfield 191, 3) := dk_181 0 191 (dk_at dksX2_endOne_0 8 rfl rfl)
theorem dX2_endOne_11 : decode cX2_endOne 11 = .ok (.aload_n 0, 1) := dk_42 (dk_at dksX2_endOne_0 11 rfl rfl)
theorem dX2_endOne_12 : decode cX2_endOne 12 = .ok (.getfield 146, 3) := dk_180 0 146 (dk_at dksX2_endOne_0 12 rfl rfl)
theorem dX2_endOne_15 : decode cX2_endOne 15 = .ok (.ifCond .eq 19, 3) := dk_153 0 19 (dk_at dksX2_endOne_0 15 rfl rfl)
theorem dX2_endOne_18 : decode cX2_endOne 18 = .ok (.aload_n 0, 1) := dk_42 (dk_at dksX2_endOne_0 18 rfl rfl)
theorem dX2_endOne_19 : decode cX2_endOne 19 = .ok (.getfield 29, 3) := dk_180 0 29 (dk_at dksX2_endOne_0 19 rfl rfl)
theorem dX2_endOne_22 : decode cX2_endOne 22 = .ok (.aload_n 0, 1) := dk_42 (dk_at dksX2_endOne_0 22 rfl rfl)
theorem dX2_endOne_23 : decode cX2_endOne 23 = .ok (.getfield 146, 3) := dk_180 0 146 (dk_at dksX2_endOne_1 0 rfl rfl)
theorem dX2_endOne_26 : decode cX2_endOne 26 = .ok (.iconst 1, 1) := dk_4 (dk_at dksX2_endOne_1 3 rfl rfl)
theorem dX2_endOne_27 : decode cX2_endOne 27 = .ok (.isub, 1) := dk_100 (dk_at dksX2_endOne_1 4 rfl rfl)
theorem dX2_endOne_28 : decode cX2_endOne 28 = .ok (.iaload, 1) := dk_46 (dk_at dksX2_endOne_1 5 rfl rfl)
theorem dX2_endOne_29 : decode cX2_endOne 29 = .ok (.bipush 41, 2) := dk_16 41 (dk_at dksX2_endOne_1 6 rfl rfl)
theorem dX2_endOne_31 : decode cX2_endOne 31 = .ok (.if_icmp .eq 5, 3) := dk_159 0 5 (dk_at dksX2_endOne_1 8 rfl rfl)
theorem dX2_endOne_34 : decode cX2_endOne 34 = .ok (.iconst 0, 1) := dk_3 (dk_at dksX2_endOne_1 11 rfl rfl)
theorem dX2_endOne_35 : decode cX2_endOne 35 = .ok (.ireturn, 1) := dk_172 (dk_at dksX2_endOne_1 12 rfl rfl)
theorem dX2_endOne_36 : decode cX2_endOne 36 = .ok (.aload_n 0, 1) := dk_42 (dk_at dksX2_endOne_1 13 rfl rfl)
theorem dX2_endOne_37 : decode cX2_endOne 37 = .ok (.bipush 111, 2) := dk_16 111 (dk_at dksX2_endOne_1 14 rfl rfl)
theorem dX2_endOne_39 : decode cX2_endOne 39 = .ok (.bipush 102, 2) := dk_16 102 (dk_at dksX2_endOne_1 16 rfl rfl)
theorem dX2_endOne_41 : decode cX2_endOne 41 = .ok (.invokestatic 120, 3) := dk_184 0 120 (dk_at dksX2_endOne_1 18 rfl rfl)
theorem dX2_endOne_44 : decode cX2_endOne 44 = .ok (.invokevirtual 180, 3) := dk_182 0 180 (dk_at dksX2_endOne_1 21 rfl rfl)
theorem dX2_endOne_47 : decode cX2_endOne 47 = .ok (.ifCond .ne 5, 3) := dk_154 0 5 (dk_at dksX2_endOne_2 0 rfl rfl)
theorem dX2_endOne_50 : decode cX2_endOne 50 = .ok (.iconst 1, 1) := dk_4 (dk_at dksX2_endOne_2 3 rfl rfl)
theorem dX2_endOne_51 : decode cX2_endOne 51 = .ok (.ireturn, 1) := dk_172 (dk_at dksX2_endOne_2 4 rfl rfl)
theorem dX2_endOne_52 : decode cX2_endOne 52 = .ok (.aload_n 0, 1) := dk_42 (dk_at dksX2_endOne_2 5 rfl rfl)
theorem dX2_endOne_53 : decode cX2_endOne 53 = .ok (.invokevirtual 165, 3) := dk_182 0 165 (dk_at dksX2_endOne_2 6 rfl rfl)
theorem dX2_endOne_56 : decode cX2_endOne 56 = .ok (.aload_n 0, 1) := dk_42 (dk_at dksX2_endOne_2 9 rfl rfl)
theorem dX2_endOne_57 : decode cX2_endOne 57 = .ok (.getfield 29, 3) := dk_180 0 29 (dk_at dksX2_endOne_2 10 rfl rfl)
theorem dX2_endOne_60 : decode cX2_endOne 60 = .ok (.aload_n 0, 1) := dk_42 (dk_at dksX2_endOne_2 13 rfl rfl)
theorem dX2_endOne_61 : decode cX2_endOne 61 = .ok (.getfield 146, 3) := dk_180 0 146 (dk_at dksX2_endOne_2 14 rfl rfl)
theorem dX2_endOne_64 : decode cX2_endOne 64 = .ok (.iconst 1, 1) := dk_4 (dk_at dksX2_endOne_2 17 rfl rfl)
theorem dX2_endOne_65 : decode cX2_endOne 65 = .ok (.isub, 1) := dk_100 (dk_at dksX2_endOne_2 18 rfl rfl)
theorem dX2_endOne_66 : decode cX2_endOne 66 = .ok (.iconst 4, 1) := dk_7 (dk_at dksX2_endOne_2 19 rfl rfl)
theorem dX2_endOne_67 : decode cX2_endOne 67 = .ok (.iastore, 1) := dk_79 (dk_at dksX2_endOne_2 20 rfl rfl)
theorem dX2_endOne_68 : decode cX2_endOne 68 = .ok (.aload_n 0, 1) := dk_42 (dk_at dksX2_endOne_2 21 rfl rfl)
theorem dX2_endOne_69 : decode cX2_endOne 69 = .ok (.iconst 0, 1) := dk_3 (dk_at dksX2_endOne_2 22 rfl rfl)
theorem dX2_endOne_70 : decode cX2_endOne 70 = .ok (.putfield 191, 3) := dk_181 0 191 (dk_at dksX2_endOne_3 0 rfl rfl)
theorem dX2_endOne_73 : decode cX2_endOne 73 = .ok (.iconst 0, 1) := dk_3 (dk_at dksX2_endOne_3 3 rfl rfl)
theorem dX2_endOne_74 : decode cX2_endOne 74 = .ok (.ireturn, 1) := dk_172 (dk_at dksX2_endOne_3 4 rfl rfl)
abbrev cX2_beginOne : ByteArray := prog_20_method_38_code
def yX2_beginOne : MethodName := ⟨RX2, "beginOne", "()I"⟩
def dkwX2_beginOne_9 : List UInt8 := [153, 0, 19, 42, 182, 0, 184, 153, 0, 12, 42, 16, 20, 182, 0, 177, 167, 0, 4, 4, 172]
abbrev dktX2_beginOne_9 : List UInt8 := dkwX2_beginOne_9 ++ []
def dkwX2_beginOne_8 : List UInt8 := [153, 0, 10, 42, 16, 42, 182, 0, 177, 172, 42, 16, 110, 16, 111, 16, 116, 184, 0, 124, 182, 0, 180]
abbrev dktX2_beginOne_8 : List UInt8 := dkwX2_beginOne_8 ++ dktX2_beginOne_9
def dkwX2_beginOne_7 : List UInt8 := [182, 0, 180, 153, 0, 9, 42, 5, 182, 0, 177, 172, 42, 16, 105, 16, 102, 184, 0, 120, 182, 0, 180]
abbrev dktX2_beginOne_7 : List UInt8 := dkwX2_beginOne_7 ++ dktX2_beginOne_8
def dkwX2_beginOne_6 : List UInt8 := [153, 0, 10, 42, 16, 41, 182, 0, 177, 172, 42, 16, 107, 16, 105, 16, 110, 16, 100, 16, 115, 184, 0, 132]
abbrev dktX2_beginOne_6 : List UInt8 := dkwX2_beginOne_6 ++ dktX2_beginOne_7
def dkwX2_beginOne_5 : List UInt8 := [42, 8, 182, 0, 177, 172, 42, 16, 114, 16, 111, 16, 117, 16, 110, 16, 100, 184, 0, 132, 182, 0, 180]
abbrev dktX2_beginOne_5 : List UInt8 := dkwX2_beginOne_5 ++ dktX2_beginOne_6
def dkwX2_beginOne_4 : List UInt8 := [180, 0, 98, 16, 40, 160, 0, 10, 42, 16, 40, 182, 0, 177, 172, 42, 180, 0, 98, 16, 45, 160, 0, 9]
abbrev dktX2_beginOne_4 : List UInt8 := dkwX2_beginOne_4 ++ dktX2_beginOne_5
def dkwX2_beginOne_3 : List UInt8 := [160, 0, 10, 42, 180, 0, 104, 167, 0, 4, 27, 182, 0, 152, 42, 182, 0, 165, 42, 182, 0, 174, 172, 42]
abbrev dktX2_beginOne_3 : List UInt8 := dkwX2_beginOne_3 ++ dktX2_beginOne_4
def dkwX2_beginOne_2 : List UInt8 := [155, 0, 45, 42, 42, 180, 0, 98, 4, 160, 0, 7, 3, 167, 0, 4, 4, 42, 180, 0, 98, 4]
abbrev dktX2_beginOne_2 : List UInt8 := dkwX2_beginOne_2 ++ dktX2_beginOne_3
def dkwX2_beginOne_1 : List UInt8 := [60, 27, 6, 164, 0, 12, 42, 180, 0, 171, 153, 0, 5, 8, 172, 42, 180, 0, 98, 4, 159, 0, 7, 27]
abbrev dktX2_beginOne_1 : List UInt8 := dkwX2_beginOne_1 ++ dktX2_beginOne_2
def dkwX2_beginOne_0 : List UInt8 := [42, 180, 0, 98, 4, 160, 0, 15, 42, 180, 0, 104, 17, 39, 15, 164, 0, 5, 5, 172, 42, 182, 0, 168]
abbrev dktX2_beginOne_0 : List UInt8 := dkwX2_beginOne_0 ++ dktX2_beginOne_1
theorem dksX2_beginOne_0 : cX2_beginOne.data.toList.drop 0 = dktX2_beginOne_0 := by decide +kernel
theorem dksX2_beginOne_1 : cX2_beginOne.data.toList.drop 24 = dktX2_beginOne_1 := dk_seg dksX2_beginOne_0 24 rfl rfl
theorem dksX2_beginOne_2 : cX2_beginOne.data.toList.drop 48 = dktX2_beginOne_2 := dk_seg dksX2_beginOne_1 24 rfl rfl
theorem dksX2_beginOne_3 : cX2_beginOne.data.toList.drop 70 = dktX2_beginOne_3 := dk_seg dksX2_beginOne_2 22 rfl rfl
theorem dksX2_beginOne_4 : cX2_beginOne.data.toList.drop 94 = dktX2_beginOne_4 := dk_seg dksX2_beginOne_3 24 rfl rfl
theorem dksX2_beginOne_5 : cX2_beginOne.data.toList.drop 118 = dktX2_beginOne_5 := dk_seg dksX2_beginOne_4 24 rfl rfl
theorem dksX2_beginOne_6 : cX2_beginOne.data.toList.drop 141 = dktX2_beginOne_6 := dk_seg dksX2_beginOne_5 23 rfl rfl
theorem dksX2_beginOne_7 : cX2_beginOne.data.toList.drop 165 = dktX2_beginOne_7 := dk_seg dksX2_beginOne_6 24 rfl rfl
theorem dksX2_beginOne_8 : cX2_beginOne.data.toList.drop 188 = dktX2_beginOne_8 := dk_seg dksX2_beginOne_7 23 rfl rfl
theorem dksX2_beginOne_9 : cX2_beginOne.data.toList.drop 211 = dktX2_beginOne_9 := dk_seg dksX2_beginOne_8 23 rfl rfl
theorem dX2_beginOne_0 : decode cX2_beginOne 0 = .ok (.aload_n 0, 1) := dk_42 (dk_at dksX2_beginOne_0 0 rfl rfl)
theorem dX2_beginOne_1 : decode cX2_beginOne 1 = .ok (.getfield 98, 3) := dk_180 0 98 (dk_at dksX2_beginOne_0 1 rfl rfl)
theorem dX2_beginOne_4 : decode cX2_beginOne 4 = .ok (.iconst 1, 1) := dk_4 (dk_at dksX2_beginOne_0 4 rfl rfl)
theorem dX2_beginOne_5 : decode cX2_beginOne 5 = .ok (.if_icmp .ne 15, 3) := dk_160 0 15 (dk_at dksX2_beginOne_0 5 rfl rfl)
theorem dX2_beginOne_8 : decode cX2_beginOne 8 = .ok (.aload_n 0, 1) := dk_42 (dk_at dksX2_beginOne_0 8 rfl rfl)
theorem dX2_beginOne_9 : decode cX2_beginOne 9 = .ok (.getfield 104, 3) := dk_180 0 104 (dk_at dksX2_beginOne_0 9 rfl rfl)
theorem dX2_beginOne_12 : decode cX2_beginOne 12 = .ok (.sipush 9999, 3) := dk_17 39 15 (dk_at dksX2_beginOne_0 12 rfl rfl)
theorem dX2_beginOne_15 : decode cX2_beginOne 15 = .ok (.if_icmp .le 5, 3) := dk_164 0 5 (dk_at dksX2_beginOne_0 15 rfl rfl)
theorem dX2_beginOne_18 : decode cX2_beginOne 18 = .ok (.iconst 2, 1) := dk_5 (dk_at dksX2_beginOne_0 18 rfl rfl)
theorem dX2_beginOne_19 : decode cX2_beginOne 19 = .ok (.ireturn, 1) := dk_172 (dk_at dksX2_beginOne_0 19 rfl rfl)
theorem dX2_beginOne_20 : decode cX2_beginOne 20 = .ok (.aload_n 0, 1) := dk_42 (dk_at dksX2_beginOne_0 20 rfl rfl)
theorem dX2_beginOne_21 : decode cX2_beginOne 21 = .ok (.invokevirtual 168, 3) := dk_182 0 168 (dk_at dksX2_beginOne_0 21 rfl rfl)
theorem dX2_beginOne_24 : decode cX2_beginOne 24 = .ok (.istore_n 1, 1) := dk_60 (dk_at dksX2_beginOne_1 0 rfl rfl)
theorem dX2_beginOne_25 : decode cX2_beginOne 25 = .ok (.iload_n 1, 1) := dk_27 (dk_at dksX2_beginOne_1 1 rfl rfl)
theorem dX2_beginOne_26 : decode cX2_beginOne 26 = .ok (.iconst 3, 1) := dk_6 (dk_at dksX2_beginOne_1 2 rfl rfl)
theorem dX2_beginOne_27 : decode cX2_beginOne 27 = .ok (.if_icmp .le 12, 3) := dk_164 0 12 (dk_at dksX2_beginOne_1 3 rfl rfl)
theorem dX2_beginOne_30 : decode cX2_beginOne 30 = .ok (.aload_n 0, 1) := dk_42 (dk_at dksX2_beginOne_1 6 rfl rfl)
theorem dX2_beginOne_31 : decode cX2_beginOne 31 = .ok (.getfield 171, 3) := dk_180 0 171 (dk_at dksX2_beginOne_1 7 rfl rfl)
theorem dX2_beginOne_34 : decode cX2_beginOne 34 = .ok (.ifCond .eq 5, 3) := dk_153 0 5 (dk_at dksX2_beginOne_1 10 rfl rfl)
theorem dX2_beginOne_37 : decode cX2_beginOne 37 = .ok (.iconst 5, 1) := dk_8 (dk_at dksX2_beginOne_1 13 rfl rfl)
theorem dX2_beginOne_38 : decode cX2_beginOne 38 = .ok (.ireturn, 1) := dk_172 (dk_at dksX2_beginOne_1 14 rfl rfl)
theorem dX2_beginOne_39 : decode cX2_beginOne 39 = .ok (.aload_n 0, 1) := dk_42 (dk_at dksX2_beginOne_1 15 rfl rfl)
theorem dX2_beginOne_40 : decode cX2_beginOne 40 = .ok (.getfield 98, 3) := dk_180 0 98 (dk_at dksX2_beginOne_1 16 rfl rfl)
theorem dX2_beginOne_43 : decode cX2_beginOne 43 = .ok (.iconst 1, 1) := dk_4 (dk_at dksX2_beginOne_1 19 rfl rfl)
theorem dX2_beginOne_44 : decode cX2_beginOne 44 = .ok (.if_icmp .eq 7, 3) := dk_159 0 7 (dk_at dksX2_beginOne_1 20 rfl rfl)
theorem dX2_beginOne_47 : decode cX2_beginOne 47 = .ok (.iload_n 1, 1) := dk_27 (dk_at dksX2_beginOne_1 23 rfl rfl)
theorem dX2_beginOne_48 : decode cX2_beginOne 48 = .ok (.ifCond .lt 45, 3) := dk_155 0 45 (dk_at dksX2_beginOne_2 0 rfl rfl)
theorem dX2_beginOne_51 : decode cX2_beginOne 51 = .ok (.aload_n 0, 1) := dk_42 (dk_at dksX2_beginOne_2 3 rfl rfl)
theorem dX2_beginOne_52 : decode cX2_beginOne 52 = .ok (.aload_n 0, 1) := dk_42 (dk_at dksX2_beginOne_2 4 rfl rfl)
theorem dX2_beginOne_53 : decode cX2_beginOne 53 = .ok (.getfield 98, 3) := dk_180 0 98 (dk_at dksX2_beginOne_2 5 rfl rfl)
theorem dX2_beginOne_56 : decode cX2_beginOne 56 = .ok (.iconst 1, 1) := dk_4 (dk_at dksX2_beginOne_2 8 rfl rfl)
theorem dX2_beginOne_57 : decode cX2_beginOne 57 = .ok (.if_icmp .ne 7, 3) := dk_160 0 7 (dk_at dksX2_beginOne_2 9 rfl rfl)
theorem dX2_beginOne_60 : decode cX2_beginOne 60 = .ok (.iconst 0, 1) := dk_3 (dk_at dksX2_beginOne_2 12 rfl rfl)
theorem dX2_beginOne_61 : decode cX2_beginOne 61 = .ok (.goto 4, 3) := dk_167 0 4 (dk_at dksX2_beginOne_2 13 rfl rfl)
theorem dX2_beginOne_64 : decode cX2_beginOne 64 = .ok (.iconst 1, 1) := dk_4 (dk_at dksX2_beginOne_2 16 rfl rfl)
theorem dX2_beginOne_65 : decode cX2_beginOne 65 = .ok (.aload_n 0, 1) := dk_42 (dk_at dksX2_beginOne_2 17 rfl rfl)
theorem dX2_beginOne_66 : decode cX2_beginOne 66 = .ok (.getfield 98, 3) := dk_180 0 98 (dk_at dksX2_beginOne_2 18 rfl rfl)
theorem dX2_beginOne_69 : decode cX2_beginOne 69 = .ok (.iconst 1, 1) := dk_4 (dk_at dksX2_beginOne_2 21 rfl rfl)
theorem dX2_beginOne_70 : decode cX2_beginOne 70 = .ok (.if_icmp .ne 10, 3) := dk_160 0 10 (dk_at dksX2_beginOne_3 0 rfl rfl)
theorem dX2_beginOne_73 : decode cX2_beginOne 73 = .ok (.aload_n 0, 1) := dk_42 (dk_at dksX2_beginOne_3 3 rfl rfl)
theorem dX2_beginOne_74 : decode cX2_beginOne 74 = .ok (.getfield 104, 3) := dk_180 0 104 (dk_at dksX2_beginOne_3 4 rfl rfl)
theorem dX2_beginOne_77 : decode cX2_beginOne 77 = .ok (.goto 4, 3) := dk_167 0 4 (dk_at dksX2_beginOne_3 7 rfl rfl)
theorem dX2_beginOne_80 : decode cX2_beginOne 80 = .ok (.iload_n 1, 1) := dk_27 (dk_at dksX2_beginOne_3 10 rfl rfl)
theorem dX2_beginOne_81 : decode cX2_beginOne 81 = .ok (.invokevirtual 152, 3) := dk_182 0 152 (dk_at dksX2_beginOne_3 11 rfl rfl)
theorem dX2_beginOne_84 : decode cX2_beginOne 84 = .ok (.aload_n 0, 1) := dk_42 (dk_at dksX2_beginOne_3 14 rfl rfl)
theorem dX2_beginOne_85 : decode cX2_beginOne 85 = .ok (.invokevirtual 165, 3) := dk_182 0 165 (dk_at dksX2_beginOne_3 15 rfl rfl)
theorem dX2_beginOne_88 : decode cX2_beginOne 88 = .ok (.aload_n 0, 1) := dk_42 (dk_at dksX2_beginOne_3 18 rfl rfl)
theorem dX2_beginOne_89 : decode cX2_beginOne 89 = .ok (.invokevirtual 174, 3) := dk_182 0 174 (dk_at dksX2_beginOne_3 19 rfl rfl)
theorem dX2_beginOne_92 : decode cX2_beginOne 92 = .ok (.ireturn, 1) := dk_172 (dk_at dksX2_beginOne_3 22 rfl rfl)
theorem dX2_beginOne_93 : decode cX2_beginOne 93 = .ok (.aload_n 0, 1) := dk_42 (dk_at dksX2_beginOne_3 23 rfl rfl)
theorem dX2_beginOne_94 : decode cX2_beginOne 94 = .ok (.getfield 98, 3) := dk_180 0 98 (dk_at dksX2_beginOne_4 0 rfl rfl)
theorem dX2_beginOne_97 : decode cX2_beginOne 97 = .ok (.bipush 40, 2) := dk_16 40 (dk_at dksX2_beginOne_4 3 rfl rfl)
theorem dX2_beginOne_99 : decode cX2_beginOne 99 = .ok (.if_icmp .ne 10, 3) := dk_160 0 10 (dk_at dksX2_beginOne_4 5 rfl rfl)
theorem dX2_beginOne_102 : decode cX2_beginOne 102 = .ok (.aload_n 0, 1) := dk_42 (dk_at dksX2_beginOne_4 8 rfl rfl)
theorem dX2_beginOne_103 : decode cX2_beginOne 103 = .ok (.bipush 40, 2) := dk_16 40 (dk_at dksX2_beginOne_4 9 rfl rfl)
theorem dX2_beginOne_105 : decode cX2_beginOne 105 = .ok (.invokevirtual 177, 3) := dk_182 0 177 (dk_at dksX2_beginOne_4 11 rfl rfl)
theorem dX2_beginOne_108 : decode cX2_beginOne 108 = .ok (.ireturn, 1) := dk_172 (dk_at dksX2_beginOne_4 14 rfl rfl)
theorem dX2_beginOne_109 : decode cX2_beginOne 109 = .ok (.aload_n 0, 1) := dk_42 (dk_at dksX2_beginOne_4 15 rfl rfl)
theorem dX2_beginOne_110 : decode cX2_beginOne 110 = .ok (.getfield 98, 3) := dk_180 0 98 (dk_at dksX2_beginOne_4 16 rfl rfl)
theorem dX2_beginOne_113 : decode cX2_beginOne 113 = .ok (.bipush 45, 2) := dk_16 45 (dk_at dksX2_beginOne_4 19 rfl rfl)
theorem dX2_beginOne_115 : decode cX2_beginOne 115 = .ok (.if_icmp .ne 9, 3) := dk_160 0 9 (dk_at dksX2_beginOne_4 21 rfl rfl)
theorem dX2_beginOne_118 : decode cX2_beginOne 118 = .ok (.aload_n 0, 1) := dk_42 (dk_at dksX2_beginOne_5 0 rfl rfl)
theorem dX2_beginOne_119 : decode cX2_beginOne 119 = .ok (.iconst 5, 1) := dk_8 (dk_at dksX2_beginOne_5 1 rfl rfl)
theorem dX2_beginOne_120 : decode cX2_beginOne 120 = .ok (.invokevirtual 177, 3) := dk_182 0 177 (dk_at dksX2_beginOne_5 2 rfl rfl)
theorem dX2_beginOne_123 : decode cX2_beginOne 123 = .ok (.ireturn, 1) := dk_172 (dk_at dksX2_beginOne_5 5 rfl rfl)
theorem dX2_beginOne_124 : decode cX2_beginOne 124 = .ok (.aload_n 0, 1) := dk_42 (dk_at dksX2_beginOne_5 6 rfl rfl)
theorem dX2_beginOne_125 : decode cX2_beginOne 125 = .ok (.bipush 114, 2) := dk_16 114 (dk_at dksX2_beginOne_5 7 rfl rfl)
theorem dX2_beginOne_127 : decode cX2_beginOne 127 = .ok (.bipush 111, 2) := dk_16 111 (dk_at dksX2_beginOne_5 9 rfl rfl)
theorem dX2_beginOne_129 : decode cX2_beginOne 129 = .ok (.bipush 117, 2) := dk_16 117 (dk_at dksX2_beginOne_5 11 rfl rfl)
theorem dX2_beginOne_131 : decode cX2_beginOne 131 = .ok (.bipush 110, 2) := dk_16 110 (dk_at dksX2_beginOne_5 13 rfl rfl)
theorem dX2_beginOne_133 : decode cX2_beginOne 133 = .ok (.bipush 100, 2) := dk_16 100 (dk_at dksX2_beginOne_5 15 rfl rfl)
theorem dX2_beginOne_135 : decode cX2_beginOne 135 = .ok (.invokestatic 132, 3) := dk_184 0 132 (dk_at dksX2_beginOne_5 17 rfl rfl)
theorem dX2_beginOne_138 : decode cX2_beginOne 138 = .ok (.invokevirtual 180, 3) := dk_182 0 180 (dk_at dksX2_beginOne_5 20 rfl rfl)
theorem dX2_beginOne_141 : decode cX2_beginOne 141 = .ok (.ifCond .eq 10, 3) := dk_153 0 10 (dk_at dksX2_beginOne_6 0 rfl rfl)
theorem dX2_beginOne_144 : decode cX2_beginOne 144 = .ok (.aload_n 0, 1) := dk_42 (dk_at dksX2_beginOne_6 3 rfl rfl)
theorem dX2_beginOne_145 : decode cX2_beginOne 145 = .ok (.bipush 41, 2) := dk_16 41 (dk_at dksX2_beginOne_6 4 rfl rfl)
theorem dX2_beginOne_147 : decode cX2_beginOne 147 = .ok (.invokevirtual 177, 3) := dk_182 0 177 (dk_at dksX2_beginOne_6 6 rfl rfl)
theorem dX2_beginOne_150 : decode cX2_beginOne 150 = .ok (.ireturn, 1) := dk_172 (dk_at dksX2_beginOne_6 9 rfl rfl)
theorem dX2_beginOne_151 : decode cX2_beginOne 151 = .ok (.aload_n 0, 1) := dk_42 (dk_at dksX2_beginOne_6 10 rfl rfl)
theorem dX2_beginOne_152 : decode cX2_beginOne 152 = .ok (.bipush 107, 2) := dk_16 107 (dk_at dksX2_beginOne_6 11 rfl rfl)
theorem dX2_beginOne_154 : decode cX2_beginOne 154 = .ok (.bipush 105, 2) := dk_16 105 (dk_at dksX2_beginOne_6 13 rfl rfl)
theorem dX2_beginOne_156 : decode cX2_beginOne 156 = .ok (.bipush 110, 2) := dk_16 110 (dk_at dksX2_beginOne_6 15 rfl rfl)
theorem dX2_beginOne_158 : decode cX2_beginOne 158 = .ok (.bipush 100, 2) := dk_16 100 (dk_at dksX2_beginOne_6 17 rfl rfl)
theorem dX2_beginOne_160 : decode cX2_beginOne 160 = .ok (.bipush 115, 2) := dk_16 115 (dk_at dksX2_beginOne_6 19 rfl rfl)
theorem dX2_beginOne_162 : decode cX2_beginOne 162 = .ok (.invokestatic 132, 3) := dk_184 0 132 (dk_at dksX2_beginOne_6 21 rfl rfl)
theorem dX2_beginOne_165 : decode cX2_beginOne 165 = .ok (.invokevirtual 180, 3) := dk_182 0 180 (dk_at dksX2_beginOne_7 0 rfl rfl)
theorem dX2_beginOne_168 : decode cX2_beginOne 168 = .ok (.ifCond .eq 9, 3) := dk_153 0 9 (dk_at dksX2_beginOne_7 3 rfl rfl)
theorem dX2_beginOne_171 : decode cX2_beginOne 171 = .ok (.aload_n 0, 1) := dk_42 (dk_at dksX2_beginOne_7 6 rfl rfl)
theorem dX2_beginOne_172 : decode cX2_beginOne 172 = .ok (.iconst 2, 1) := dk_5 (dk_at dksX2_beginOne_7 7 rfl rfl)
theorem dX2_beginOne_173 : decode cX2_beginOne 173 = .ok (.invokevirtual 177, 3) := dk_182 0 177 (dk_at dksX2_beginOne_7 8 rfl rfl)
theorem dX2_beginOne_176 : decode cX2_beginOne 176 = .ok (.ireturn, 1) := dk_172 (dk_at dksX2_beginOne_7 11 rfl rfl)
theorem dX2_beginOne_177 : decode cX2_beginOne 177 = .ok (.aload_n 0, 1) := dk_42 (dk_at dksX2_beginOne_7 12 rfl rfl)
theorem dX2_beginOne_178 : decode cX2_beginOne 178 = .ok (.bipush 105, 2) := dk_16 105 (dk_at dksX2_beginOne_7 13 rfl rfl)
theorem dX2_beginOne_180 : decode cX2_beginOne 180 = .ok (.bipush 102, 2) := dk_16 102 (dk_at dksX2_beginOne_7 15 rfl rfl)
theorem dX2_beginOne_182 : decode cX2_beginOne 182 = .ok (.invokestatic 120, 3) := dk_184 0 120 (dk_at dksX2_beginOne_7 17 rfl rfl)
theorem dX2_beginOne_185 : decode cX2_beginOne 185 = .ok (.invokevirtual 180, 3) := dk_182 0 180 (dk_at dksX2_beginOne_7 20 rfl rfl)
theorem dX2_beginOne_188 : decode cX2_beginOne 188 = .ok (.ifCond .eq 10, 3) := dk_153 0 10 (dk_at dksX2_beginOne_8 0 rfl rfl)
theorem dX2_beginOne_191 : decode cX2_beginOne 191 = .ok (.aload_n 0, 1) := dk_42 (dk_at dksX2_beginOne_8 3 rfl rfl)
theorem dX2_beginOne_192 : decode cX2_beginOne 192 = .ok (.bipush 42, 2) := dk_16 42 (dk_at dksX2_beginOne_8 4 rfl rfl)
theorem dX2_beginOne_194 : decode cX2_beginOne 194 = .ok (.invokevirtual 177, 3) := dk_182 0 177 (dk_at dksX2_beginOne_8 6 rfl rfl)
theorem dX2_beginOne_197 : decode cX2_beginOne 197 = .ok (.ireturn, 1) := dk_172 (dk_at dksX2_beginOne_8 9 rfl rfl)
theorem dX2_beginOne_198 : decode cX2_beginOne 198 = .ok (.aload_n 0, 1) := dk_42 (dk_at dksX2_beginOne_8 10 rfl rfl)
theorem dX2_beginOne_199 : decode cX2_beginOne 199 = .ok (.bipush 110, 2) := dk_16 110 (dk_at dksX2_beginOne_8 11 rfl rfl)
theorem dX2_beginOne_201 : decode cX2_beginOne 201 = .ok (.bipush 111, 2) := dk_16 111 (dk_at dksX2_beginOne_8 13 rfl rfl)
theorem dX2_beginOne_203 : decode cX2_beginOne 203 = .ok (.bipush 116, 2) := dk_16 116 (dk_at dksX2_beginOne_8 15 rfl rfl)
theorem dX2_beginOne_205 : decode cX2_beginOne 205 = .ok (.invokestatic 124, 3) := dk_184 0 124 (dk_at dksX2_beginOne_8 17 rfl rfl)
theorem dX2_beginOne_208 : decode cX2_beginOne 208 = .ok (.invokevirtual 180, 3) := dk_182 0 180 (dk_at dksX2_beginOne_8 20 rfl rfl)
theorem dX2_beginOne_211 : decode cX2_beginOne 211 = .ok (.ifCond .eq 19, 3) := dk_153 0 19 (dk_at dksX2_beginOne_9 0 rfl rfl)
theorem dX2_beginOne_214 : decode cX2_beginOne 214 = .ok (.aload_n 0, 1) := dk_42 (dk_at dksX2_beginOne_9 3 rfl rfl)
theorem dX2_beginOne_215 : decode cX2_beginOne 215 = .ok (.invokevirtual 184, 3) := dk_182 0 184 (dk_at dksX2_beginOne_9 4 rfl rfl)
theorem dX2_beginOne_218 : decode cX2_beginOne 218 = .ok (.ifCond .eq 12, 3) := dk_153 0 12 (dk_at dksX2_beginOne_9 7 rfl rfl)
theorem dX2_beginOne_221 : decode cX2_beginOne 221 = .ok (.aload_n 0, 1) := dk_42 (dk_at dksX2_beginOne_9 10 rfl rfl)
theorem dX2_beginOne_222 : decode cX2_beginOne 222 = .ok (.bipush 20, 2) := dk_16 20 (dk_at dksX2_beginOne_9 11 rfl rfl)
theorem dX2_beginOne_224 : decode cX2_beginOne 224 = .ok (.invokevirtual 177, 3) := dk_182 0 177 (dk_at dksX2_beginOne_9 13 rfl rfl)
theorem dX2_beginOne_227 : decode cX2_beginOne 227 = .ok (.goto 4, 3) := dk_167 0 4 (dk_at dksX2_beginOne_9 16 rfl rfl)
theorem dX2_beginOne_230 : decode cX2_beginOne 230 = .ok (.iconst 1, 1) := dk_4 (dk_at dksX2_beginOne_9 19 rfl rfl)
theorem dX2_beginOne_231 : decode cX2_beginOne 231 = .ok (.ireturn, 1) := dk_172 (dk_at dksX2_beginOne_9 20 rfl rfl)
abbrev cX2_nameOf : ByteArray := prog_20_method_30_code
def yX2_nameOf : MethodName := ⟨RX2, "nameOf", "()I"⟩
def dkwX2_nameOf_8 : List UInt8 := [154, 0, 8, 16, 7, 167, 0, 4, 2, 172]
abbrev dktX2_nameOf_8 : List UInt8 := dkwX2_nameOf_8 ++ []
def dkwX2_nameOf_7 : List UInt8 := [154, 0, 8, 16, 6, 167, 0, 26, 42, 180, 0, 111, 16, 119, 16, 104, 16, 111, 184, 0, 124, 148]
abbrev dktX2_nameOf_7 : List UInt8 := dkwX2_nameOf_7 ++ dktX2_nameOf_8
def dkwX2_nameOf_6 : List UInt8 := [148, 154, 0, 5, 8, 172, 42, 180, 0, 111, 16, 108, 16, 117, 16, 99, 16, 107, 184, 0, 128, 148]
abbrev dktX2_nameOf_6 : List UInt8 := dkwX2_nameOf_6 ++ dktX2_nameOf_7
def dkwX2_nameOf_5 : List UInt8 := [154, 0, 5, 7, 172, 42, 180, 0, 111, 16, 115, 16, 116, 16, 114, 16, 105, 16, 100, 16, 101, 184, 0, 142]
abbrev dktX2_nameOf_5 : List UInt8 := dkwX2_nameOf_5 ++ dktX2_nameOf_6
def dkwX2_nameOf_4 : List UInt8 := [154, 0, 5, 6, 172, 42, 180, 0, 111, 16, 99, 16, 111, 16, 117, 16, 110, 16, 116, 184, 0, 132, 148]
abbrev dktX2_nameOf_4 : List UInt8 := dkwX2_nameOf_4 ++ dktX2_nameOf_5
def dkwX2_nameOf_3 : List UInt8 := [148, 154, 0, 5, 5, 172, 42, 180, 0, 111, 16, 112, 16, 97, 16, 105, 16, 110, 16, 116, 184, 0, 132, 148]
abbrev dktX2_nameOf_3 : List UInt8 := dkwX2_nameOf_3 ++ dktX2_nameOf_4
def dkwX2_nameOf_2 : List UInt8 := [184, 0, 132, 148, 154, 0, 5, 4, 172, 42, 180, 0, 111, 16, 107, 16, 105, 16, 110, 16, 100, 184, 0, 128]
abbrev dktX2_nameOf_2 : List UInt8 := dkwX2_nameOf_2 ++ dktX2_nameOf_3
def dkwX2_nameOf_1 : List UInt8 := [184, 0, 128, 148, 154, 0, 5, 3, 172, 42, 180, 0, 111, 16, 112, 16, 108, 16, 97, 16, 99, 16, 101]
abbrev dktX2_nameOf_1 : List UInt8 := dkwX2_nameOf_1 ++ dktX2_nameOf_2
def dkwX2_nameOf_0 : List UInt8 := [42, 180, 0, 98, 5, 159, 0, 5, 2, 172, 42, 180, 0, 111, 16, 121, 16, 101, 16, 97, 16, 114]
abbrev dktX2_nameOf_0 : List UInt8 := dkwX2_nameOf_0 ++ dktX2_nameOf_1
theorem dksX2_nameOf_0 : cX2_nameOf.data.toList.drop 0 = dktX2_nameOf_0 := by decide +kernel
theorem dksX2_nameOf_1 : cX2_nameOf.data.toList.drop 22 = dktX2_nameOf_1 := dk_seg dksX2_nameOf_0 22 rfl rfl
theorem dksX2_nameOf_2 : cX2_nameOf.data.toList.drop 45 = dktX2_nameOf_2 := dk_seg dksX2_nameOf_1 23 rfl rfl
theorem dksX2_nameOf_3 : cX2_nameOf.data.toList.drop 69 = dktX2_nameOf_3 := dk_seg dksX2_nameOf_2 24 rfl rfl
theorem dksX2_nameOf_4 : cX2_nameOf.data.toList.drop 93 = dktX2_nameOf_4 := dk_seg dksX2_nameOf_3 24 rfl rfl
theorem dksX2_nameOf_5 : cX2_nameOf.data.toList.drop 116 = dktX2_nameOf_5 := dk_seg dksX2_nameOf_4 23 rfl rfl
theorem dksX2_nameOf_6 : cX2_nameOf.data.toList.drop 140 = dktX2_nameOf_6 := dk_seg dksX2_nameOf_5 24 rfl rfl
theorem dksX2_nameOf_7 : cX2_nameOf.data.toList.drop 162 = dktX2_nameOf_7 := dk_seg dksX2_nameOf_6 22 rfl rfl
theorem dksX2_nameOf_8 : cX2_nameOf.data.toList.drop 184 = dktX2_nameOf_8 := dk_seg dksX2_nameOf_7 22 rfl rfl
theorem dX2_nameOf_0 : decode cX2_nameOf 0 = .ok (.aload_n 0, 1) := dk_42 (dk_at dksX2_nameOf_0 0 rfl rfl)
theorem dX2_nameOf_1 : decode cX2_nameOf 1 = .ok (.getfield 98, 3) := dk_180 0 98 (dk_at dksX2_nameOf_0 1 rfl rfl)
theorem dX2_nameOf_4 : decode cX2_nameOf 4 = .ok (.iconst 2, 1) := dk_5 (dk_at dksX2_nameOf_0 4 rfl rfl)
theorem dX2_nameOf_5 : decode cX2_nameOf 5 = .ok (.if_icmp .eq 5, 3) := dk_159 0 5 (dk_at dksX2_nameOf_0 5 rfl rfl)
theorem dX2_nameOf_8 : decode cX2_nameOf 8 = .ok (.iconst (-1), 1) := dk_2 (dk_at dksX2_nameOf_0 8 rfl rfl)
theorem dX2_nameOf_9 : decode cX2_nameOf 9 = .ok (.ireturn, 1) := dk_172 (dk_at dksX2_nameOf_0 9 rfl rfl)
theorem dX2_nameOf_10 : decode cX2_nameOf 10 = .ok (.aload_n 0, 1) := dk_42 (dk_at dksX2_nameOf_0 10 rfl rfl)
theorem dX2_nameOf_11 : decode cX2_nameOf 11 = .ok (.getfield 111, 3) := dk_180 0 111 (dk_at dksX2_nameOf_0 11 rfl rfl)
theorem dX2_nameOf_14 : decode cX2_nameOf 14 = .ok (.bipush 121, 2) := dk_16 121 (dk_at dksX2_nameOf_0 14 rfl rfl)
theorem dX2_nameOf_16 : decode cX2_nameOf 16 = .ok (.bipush 101, 2) := dk_16 101 (dk_at dksX2_nameOf_0 16 rfl rfl)
theorem dX2_nameOf_18 : decode cX2_nameOf 18 = .ok (.bipush 97, 2) := dk_16 97 (dk_at dksX2_nameOf_0 18 rfl rfl)
theorem dX2_nameOf_20 : decode cX2_nameOf 20 = .ok (.bipush 114, 2) := dk_16 114 (dk_at dksX2_nameOf_0 20 rfl rfl)
theorem dX2_nameOf_22 : decode cX2_nameOf 22 = .ok (.invokestatic 128, 3) := dk_184 0 128 (dk_at dksX2_nameOf_1 0 rfl rfl)
theorem dX2_nameOf_25 : decode cX2_nameOf 25 = .ok (.lcmp, 1) := dk_148 (dk_at dksX2_nameOf_1 3 rfl rfl)
theorem dX2_nameOf_26 : decode cX2_nameOf 26 = .ok (.ifCond .ne 5, 3) := dk_154 0 5 (dk_at dksX2_nameOf_1 4 rfl rfl)
theorem dX2_nameOf_29 : decode cX2_nameOf 29 = .ok (.iconst 0, 1) := dk_3 (dk_at dksX2_nameOf_1 7 rfl rfl)
theorem dX2_nameOf_30 : decode cX2_nameOf 30 = .ok (.ireturn, 1) := dk_172 (dk_at dksX2_nameOf_1 8 rfl rfl)
theorem dX2_nameOf_31 : decode cX2_nameOf 31 = .ok (.aload_n 0, 1) := dk_42 (dk_at dksX2_nameOf_1 9 rfl rfl)
theorem dX2_nameOf_32 : decode cX2_nameOf 32 = .ok (.getfield 111, 3) := dk_180 0 111 (dk_at dksX2_nameOf_1 10 rfl rfl)
theorem dX2_nameOf_35 : decode cX2_nameOf 35 = .ok (.bipush 112, 2) := dk_16 112 (dk_at dksX2_nameOf_1 13 rfl rfl)
theorem dX2_nameOf_37 : decode cX2_nameOf 37 = .ok (.bipush 108, 2) := dk_16 108 (dk_at dksX2_nameOf_1 15 rfl rfl)
theorem dX2_nameOf_39 : decode cX2_nameOf 39 = .ok (.bipush 97, 2) := dk_16 97 (dk_at dksX2_nameOf_1 17 rfl rfl)
theorem dX2_nameOf_41 : decode cX2_nameOf 41 = .ok (.bipush 99, 2) := dk_16 99 (dk_at dksX2_nameOf_1 19 rfl rfl)
theorem dX2_nameOf_43 : decode cX2_nameOf 43 = .ok (.bipush 101, 2) := dk_16 101 (dk_at dksX2_nameOf_1 21 rfl rfl)
theorem dX2_nameOf_45 : decode cX2_nameOf 45 = .ok (.invokestatic 132, 3) := dk_184 0 132 (dk_at dksX2_nameOf_2 0 rfl rfl)
theorem dX2_nameOf_48 : decode cX2_nameOf 48 = .ok (.lcmp, 1) := dk_148 (dk_at dksX2_nameOf_2 3 rfl rfl)
theorem dX2_nameOf_49 : decode cX2_nameOf 49 = .ok (.ifCond .ne 5, 3) := dk_154 0 5 (dk_at dksX2_nameOf_2 4 rfl rfl)
theorem dX2_nameOf_52 : decode cX2_nameOf 52 = .ok (.iconst 1, 1) := dk_4 (dk_at dksX2_nameOf_2 7 rfl rfl)
theorem dX2_nameOf_53 : decode cX2_nameOf 53 = .ok (.ireturn, 1) := dk_172 (dk_at dksX2_nameOf_2 8 rfl rfl)
theorem dX2_nameOf_54 : decode cX2_nameOf 54 = .ok (.aload_n 0, 1) := dk_42 (dk_at dksX2_nameOf_2 9 rfl rfl)
theorem dX2_nameOf_55 : decode cX2_nameOf 55 = .ok (.getfield 111, 3) := dk_180 0 111 (dk_at dksX2_nameOf_2 10 rfl rfl)
theorem dX2_nameOf_58 : decode cX2_nameOf 58 = .ok (.bipush 107, 2) := dk_16 107 (dk_at dksX2_nameOf_2 13 rfl rfl)
theorem dX2_nameOf_60 : decode cX2_nameOf 60 = .ok (.bipush 105, 2) := dk_16 105 (dk_at dksX2_nameOf_2 15 rfl rfl)
theorem dX2_nameOf_62 : decode cX2_nameOf 62 = .ok (.bipush 110, 2) := dk_16 110 (dk_at dksX2_nameOf_2 17 rfl rfl)
theorem dX2_nameOf_64 : decode cX2_nameOf 64 = .ok (.bipush 100, 2) := dk_16 100 (dk_at dksX2_nameOf_2 19 rfl rfl)
theorem dX2_nameOf_66 : decode cX2_nameOf 66 = .ok (.invokestatic 128, 3) := dk_184 0 128 (dk_at dksX2_nameOf_2 21 rfl rfl)
theorem dX2_nameOf_69 : decode cX2_nameOf 69 = .ok (.lcmp, 1) := dk_148 (dk_at dksX2_nameOf_3 0 rfl rfl)
theorem dX2_nameOf_70 : decode cX2_nameOf 70 = .ok (.ifCond .ne 5, 3) := dk_154 0 5 (dk_at dksX2_nameOf_3 1 rfl rfl)
theorem dX2_nameOf_73 : decode cX2_nameOf 73 = .ok (.iconst 2, 1) := dk_5 (dk_at dksX2_nameOf_3 4 rfl rfl)
theorem dX2_nameOf_74 : decode cX2_nameOf 74 = .ok (.ireturn, 1) := dk_172 (dk_at dksX2_nameOf_3 5 rfl rfl)
theorem dX2_nameOf_75 : decode cX2_nameOf 75 = .ok (.aload_n 0, 1) := dk_42 (dk_at dksX2_nameOf_3 6 rfl rfl)
theorem dX2_nameOf_76 : decode cX2_nameOf 76 = .ok (.getfield 111, 3) := dk_180 0 111 (dk_at dksX2_nameOf_3 7 rfl rfl)
theorem dX2_nameOf_79 : decode cX2_nameOf 79 = .ok (.bipush 112, 2) := dk_16 112 (dk_at dksX2_nameOf_3 10 rfl rfl)
theorem dX2_nameOf_81 : decode cX2_nameOf 81 = .ok (.bipush 97, 2) := dk_16 97 (dk_at dksX2_nameOf_3 12 rfl rfl)
theorem dX2_nameOf_83 : decode cX2_nameOf 83 = .ok (.bipush 105, 2) := dk_16 105 (dk_at dksX2_nameOf_3 14 rfl rfl)
theorem dX2_nameOf_85 : decode cX2_nameOf 85 = .ok (.bipush 110, 2) := dk_16 110 (dk_at dksX2_nameOf_3 16 rfl rfl)
theorem dX2_nameOf_87 : decode cX2_nameOf 87 = .ok (.bipush 116, 2) := dk_16 116 (dk_at dksX2_nameOf_3 18 rfl rfl)
theorem dX2_nameOf_89 : decode cX2_nameOf 89 = .ok (.invokestatic 132, 3) := dk_184 0 132 (dk_at dksX2_nameOf_3 20 rfl rfl)
theorem dX2_nameOf_92 : decode cX2_nameOf 92 = .ok (.lcmp, 1) := dk_148 (dk_at dksX2_nameOf_3 23 rfl rfl)
theorem dX2_nameOf_93 : decode cX2_nameOf 93 = .ok (.ifCond .ne 5, 3) := dk_154 0 5 (dk_at dksX2_nameOf_4 0 rfl rfl)
theorem dX2_nameOf_96 : decode cX2_nameOf 96 = .ok (.iconst 3, 1) := dk_6 (dk_at dksX2_nameOf_4 3 rfl rfl)
theorem dX2_nameOf_97 : decode cX2_nameOf 97 = .ok (.ireturn, 1) := dk_172 (dk_at dksX2_nameOf_4 4 rfl rfl)
theorem dX2_nameOf_98 : decode cX2_nameOf 98 = .ok (.aload_n 0, 1) := dk_42 (dk_at dksX2_nameOf_4 5 rfl rfl)
theorem dX2_nameOf_99 : decode cX2_nameOf 99 = .ok (.getfield 111, 3) := dk_180 0 111 (dk_at dksX2_nameOf_4 6 rfl rfl)
theorem dX2_nameOf_102 : decode cX2_nameOf 102 = .ok (.bipush 99, 2) := dk_16 99 (dk_at dksX2_nameOf_4 9 rfl rfl)
theorem dX2_nameOf_104 : decode cX2_nameOf 104 = .ok (.bipush 111, 2) := dk_16 111 (dk_at dksX2_nameOf_4 11 rfl rfl)
theorem dX2_nameOf_106 : decode cX2_nameOf 106 = .ok (.bipush 117, 2) := dk_16 117 (dk_at dksX2_nameOf_4 13 rfl rfl)
theorem dX2_nameOf_108 : decode cX2_nameOf 108 = .ok (.bipush 110, 2) := dk_16 110 (dk_at dksX2_nameOf_4 15 rfl rfl)
theorem dX2_nameOf_110 : decode cX2_nameOf 110 = .ok (.bipush 116, 2) := dk_16 116 (dk_at dksX2_nameOf_4 17 rfl rfl)
theorem dX2_nameOf_112 : decode cX2_nameOf 112 = .ok (.invokestatic 132, 3) := dk_184 0 132 (dk_at dksX2_nameOf_4 19 rfl rfl)
theorem dX2_nameOf_115 : decode cX2_nameOf 115 = .ok (.lcmp, 1) := dk_148 (dk_at dksX2_nameOf_4 22 rfl rfl)
theorem dX2_nameOf_116 : decode cX2_nameOf 116 = .ok (.ifCond .ne 5, 3) := dk_154 0 5 (dk_at dksX2_nameOf_5 0 rfl rfl)
theorem dX2_nameOf_119 : decode cX2_nameOf 119 = .ok (.iconst 4, 1) := dk_7 (dk_at dksX2_nameOf_5 3 rfl rfl)
theorem dX2_nameOf_120 : decode cX2_nameOf 120 = .ok (.ireturn, 1) := dk_172 (dk_at dksX2_nameOf_5 4 rfl rfl)
theorem dX2_nameOf_121 : decode cX2_nameOf 121 = .ok (.aload_n 0, 1) := dk_42 (dk_at dksX2_nameOf_5 5 rfl rfl)
theorem dX2_nameOf_122 : decode cX2_nameOf 122 = .ok (.getfield 111, 3) := dk_180 0 111 (dk_at dksX2_nameOf_5 6 rfl rfl)
theorem dX2_nameOf_125 : decode cX2_nameOf 125 = .ok (.bipush 115, 2) := dk_16 115 (dk_at dksX2_nameOf_5 9 rfl rfl)
theorem dX2_nameOf_127 : decode cX2_nameOf 127 = .ok (.bipush 116, 2) := dk_16 116 (dk_at dksX2_nameOf_5 11 rfl rfl)
theorem dX2_nameOf_129 : decode cX2_nameOf 129 = .ok (.bipush 114, 2) := dk_16 114 (dk_at dksX2_nameOf_5 13 rfl rfl)
theorem dX2_nameOf_131 : decode cX2_nameOf 131 = .ok (.bipush 105, 2) := dk_16 105 (dk_at dksX2_nameOf_5 15 rfl rfl)
theorem dX2_nameOf_133 : decode cX2_nameOf 133 = .ok (.bipush 100, 2) := dk_16 100 (dk_at dksX2_nameOf_5 17 rfl rfl)
theorem dX2_nameOf_135 : decode cX2_nameOf 135 = .ok (.bipush 101, 2) := dk_16 101 (dk_at dksX2_nameOf_5 19 rfl rfl)
theorem dX2_nameOf_137 : decode cX2_nameOf 137 = .ok (.invokestatic 142, 3) := dk_184 0 142 (dk_at dksX2_nameOf_5 21 rfl rfl)
theorem dX2_nameOf_140 : decode cX2_nameOf 140 = .ok (.lcmp, 1) := dk_148 (dk_at dksX2_nameOf_6 0 rfl rfl)
theorem dX2_nameOf_141 : decode cX2_nameOf 141 = .ok (.ifCond .ne 5, 3) := dk_154 0 5 (dk_at dksX2_nameOf_6 1 rfl rfl)
theorem dX2_nameOf_144 : decode cX2_nameOf 144 = .ok (.iconst 5, 1) := dk_8 (dk_at dksX2_nameOf_6 4 rfl rfl)
theorem dX2_nameOf_145 : decode cX2_nameOf 145 = .ok (.ireturn, 1) := dk_172 (dk_at dksX2_nameOf_6 5 rfl rfl)
theorem dX2_nameOf_146 : decode cX2_nameOf 146 = .ok (.aload_n 0, 1) := dk_42 (dk_at dksX2_nameOf_6 6 rfl rfl)
theorem dX2_nameOf_147 : decode cX2_nameOf 147 = .ok (.getfield 111, 3) := dk_180 0 111 (dk_at dksX2_nameOf_6 7 rfl rfl)
theorem dX2_nameOf_150 : decode cX2_nameOf 150 = .ok (.bipush 108, 2) := dk_16 108 (dk_at dksX2_nameOf_6 10 rfl rfl)
theorem dX2_nameOf_152 : decode cX2_nameOf 152 = .ok (.bipush 117, 2) := dk_16 117 (dk_at dksX2_nameOf_6 12 rfl rfl)
theorem dX2_nameOf_154 : decode cX2_nameOf 154 = .ok (.bipush 99, 2) := dk_16 99 (dk_at dksX2_nameOf_6 14 rfl rfl)
theorem dX2_nameOf_156 : decode cX2_nameOf 156 = .ok (.bipush 107, 2) := dk_16 107 (dk_at dksX2_nameOf_6 16 rfl rfl)
theorem dX2_nameOf_158 : decode cX2_nameOf 158 = .ok (.invokestatic 128, 3) := dk_184 0 128 (dk_at dksX2_nameOf_6 18 rfl rfl)
theorem dX2_nameOf_161 : decode cX2_nameOf 161 = .ok (.lcmp, 1) := dk_148 (dk_at dksX2_nameOf_6 21 rfl rfl)
theorem dX2_nameOf_162 : decode cX2_nameOf 162 = .ok (.ifCond .ne 8, 3) := dk_154 0 8 (dk_at dksX2_nameOf_7 0 rfl rfl)
theorem dX2_nameOf_165 : decode cX2_nameOf 165 = .ok (.bipush 6, 2) := dk_16 6 (dk_at dksX2_nameOf_7 3 rfl rfl)
theorem dX2_nameOf_167 : decode cX2_nameOf 167 = .ok (.goto 26, 3) := dk_167 0 26 (dk_at dksX2_nameOf_7 5 rfl rfl)
theorem dX2_nameOf_170 : decode cX2_nameOf 170 = .ok (.aload_n 0, 1) := dk_42 (dk_at dksX2_nameOf_7 8 rfl rfl)
theorem dX2_nameOf_171 : decode cX2_nameOf 171 = .ok (.getfield 111, 3) := dk_180 0 111 (dk_at dksX2_nameOf_7 9 rfl rfl)
theorem dX2_nameOf_174 : decode cX2_nameOf 174 = .ok (.bipush 119, 2) := dk_16 119 (dk_at dksX2_nameOf_7 12 rfl rfl)
theorem dX2_nameOf_176 : decode cX2_nameOf 176 = .ok (.bipush 104, 2) := dk_16 104 (dk_at dksX2_nameOf_7 14 rfl rfl)
theorem dX2_nameOf_178 : decode cX2_nameOf 178 = .ok (.bipush 111, 2) := dk_16 111 (dk_at dksX2_nameOf_7 16 rfl rfl)
theorem dX2_nameOf_180 : decode cX2_nameOf 180 = .ok (.invokestatic 124, 3) := dk_184 0 124 (dk_at dksX2_nameOf_7 18 rfl rfl)
theorem dX2_nameOf_183 : decode cX2_nameOf 183 = .ok (.lcmp, 1) := dk_148 (dk_at dksX2_nameOf_7 21 rfl rfl)
theorem dX2_nameOf_184 : decode cX2_nameOf 184 = .ok (.ifCond .ne 8, 3) := dk_154 0 8 (dk_at dksX2_nameOf_8 0 rfl rfl)
theorem dX2_nameOf_187 : decode cX2_nameOf 187 = .ok (.bipush 7, 2) := dk_16 7 (dk_at dksX2_nameOf_8 3 rfl rfl)
theorem dX2_nameOf_189 : decode cX2_nameOf 189 = .ok (.goto 4, 3) := dk_167 0 4 (dk_at dksX2_nameOf_8 5 rfl rfl)
theorem dX2_nameOf_192 : decode cX2_nameOf 192 = .ok (.iconst (-1), 1) := dk_2 (dk_at dksX2_nameOf_8 8 rfl rfl)
theorem dX2_nameOf_193 : decode cX2_nameOf 193 = .ok (.ireturn, 1) := dk_172 (dk_at dksX2_nameOf_8 9 rfl rfl)
abbrev cX2_opened : ByteArray := prog_20_method_37_code
def yX2_opened : MethodName := ⟨RX2, "opened", "(I)I"⟩
def dkwX2_opened_2 : List UInt8 := [172]
abbrev dktX2_opened_2 : List UInt8 := dkwX2_opened_2 ++ []
def dkwX2_opened_1 : List UInt8 := [180, 0, 29, 42, 180, 0, 146, 27, 79, 42, 89, 180, 0, 146, 4, 96, 181, 0, 146, 42, 182, 0, 165, 3]
abbrev dktX2_opened_1 : List UInt8 := dkwX2_opened_1 ++ dktX2_opened_2
def dkwX2_opened_0 : List UInt8 := [42, 180, 0, 155, 16, 8, 160, 0, 5, 6, 172, 42, 89, 180, 0, 155, 4, 96, 181, 0, 155, 42]
abbrev dktX2_opened_0 : List UInt8 := dkwX2_opened_0 ++ dktX2_opened_1
theorem dksX2_opened_0 : cX2_opened.data.toList.drop 0 = dktX2_opened_0 := by decide +kernel
theorem dksX2_opened_1 : cX2_opened.data.toList.drop 22 = dktX2_opened_1 := dk_seg dksX2_opened_0 22 rfl rfl
theorem dksX2_opened_2 : cX2_opened.data.toList.drop 46 = dktX2_opened_2 := dk_seg dksX2_opened_1 24 rfl rfl
theorem dX2_opened_0 : decode cX2_opened 0 = .ok (.aload_n 0, 1) := dk_42 (dk_at dksX2_opened_0 0 rfl rfl)
theorem dX2_opened_1 : decode cX2_opened 1 = .ok (.getfield 155, 3) := dk_180 0 155 (dk_at dksX2_opened_0 1 rfl rfl)
theorem dX2_opened_4 : decode cX2_opened 4 = .ok (.bipush 8, 2) := dk_16 8 (dk_at dksX2_opened_0 4 rfl rfl)
theorem dX2_opened_6 : decode cX2_opened 6 = .ok (.if_icmp .ne 5, 3) := dk_160 0 5 (dk_at dksX2_opened_0 6 rfl rfl)
theorem dX2_opened_9 : decode cX2_opened 9 = .ok (.iconst 3, 1) := dk_6 (dk_at dksX2_opened_0 9 rfl rfl)
theorem dX2_opened_10 : decode cX2_opened 10 = .ok (.ireturn, 1) := dk_172 (dk_at dksX2_opened_0 10 rfl rfl)
theorem dX2_opened_11 : decode cX2_opened 11 = .ok (.aload_n 0, 1) := dk_42 (dk_at dksX2_opened_0 11 rfl rfl)
theorem dX2_opened_12 : decode cX2_opened 12 = .ok (.dup, 1) := dk_89 (dk_at dksX2_opened_0 12 rfl rfl)
theorem dX2_opened_13 : decode cX2_opened 13 = .ok (.getfield 155, 3) := dk_180 0 155 (dk_at dksX2_opened_0 13 rfl rfl)
theorem dX2_opened_16 : decode cX2_opened 16 = .ok (.iconst 1, 1) := dk_4 (dk_at dksX2_opened_0 16 rfl rfl)
theorem dX2_opened_17 : decode cX2_opened 17 = .ok (.iadd, 1) := dk_96 (dk_at dksX2_opened_0 17 rfl rfl)
theorem dX2_opened_18 : decode cX2_opened 18 = .ok (.putfield 155, 3) := dk_181 0 155 (dk_at dksX2_opened_0 18 rfl rfl)
theorem dX2_opened_21 : decode cX2_opened 21 = .ok (.aload_n 0, 1) := dk_42 (dk_at dksX2_opened_0 21 rfl rfl)
theorem dX2_opened_22 : decode cX2_opened 22 = .ok (.getfield 29, 3) := dk_180 0 29 (dk_at dksX2_opened_1 0 rfl rfl)
theorem dX2_opened_25 : decode cX2_opened 25 = .ok (.aload_n 0, 1) := dk_42 (dk_at dksX2_opened_1 3 rfl rfl)
theorem dX2_opened_26 : decode cX2_opened 26 = .ok (.getfield 146, 3) := dk_180 0 146 (dk_at dksX2_opened_1 4 rfl rfl)
theorem dX2_opened_29 : decode cX2_opened 29 = .ok (.iload_n 1, 1) := dk_27 (dk_at dksX2_opened_1 7 rfl rfl)
theorem dX2_opened_30 : decode cX2_opened 30 = .ok (.iastore, 1) := dk_79 (dk_at dksX2_opened_1 8 rfl rfl)
theorem dX2_opened_31 : decode cX2_opened 31 = .ok (.aload_n 0, 1) := dk_42 (dk_at dksX2_opened_1 9 rfl rfl)
theorem dX2_opened_32 : decode cX2_opened 32 = .ok (.dup, 1) := dk_89 (dk_at dksX2_opened_1 10 rfl rfl)
theorem dX2_opened_33 : decode cX2_opened 33 = .ok (.getfield 146, 3) := dk_180 0 146 (dk_at dksX2_opened_1 11 rfl rfl)
theorem dX2_opened_36 : decode cX2_opened 36 = .ok (.iconst 1, 1) := dk_4 (dk_at dksX2_opened_1 14 rfl rfl)
theorem dX2_opened_37 : decode cX2_opened 37 = .ok (.iadd, 1) := dk_96 (dk_at dksX2_opened_1 15 rfl rfl)
theorem dX2_opened_38 : decode cX2_opened 38 = .ok (.putfield 146, 3) := dk_181 0 146 (dk_at dksX2_opened_1 16 rfl rfl)
theorem dX2_opened_41 : decode cX2_opened 41 = .ok (.aload_n 0, 1) := dk_42 (dk_at dksX2_opened_1 19 rfl rfl)
theorem dX2_opened_42 : decode cX2_opened 42 = .ok (.invokevirtual 165, 3) := dk_182 0 165 (dk_at dksX2_opened_1 20 rfl rfl)
theorem dX2_opened_45 : decode cX2_opened 45 = .ok (.iconst 0, 1) := dk_3 (dk_at dksX2_opened_1 23 rfl rfl)
theorem dX2_opened_46 : decode cX2_opened 46 = .ok (.ireturn, 1) := dk_172 (dk_at dksX2_opened_2 0 rfl rfl)
abbrev cX2_isAskAhead : ByteArray := prog_20_method_36_code
def yX2_isAskAhead : MethodName := ⟨RX2, "isAskAhead", "()Z"⟩
def dkwX2_isAskAhead_2 : List UInt8 := [153, 0, 7, 4, 167, 0, 4, 3, 172]
abbrev dktX2_isAskAhead_2 : List UInt8 := dkwX2_isAskAhead_2 ++ []
def dkwX2_isAskAhead_1 : List UInt8 := [162, 0, 25, 42, 180, 0, 29, 42, 180, 0, 146, 4, 100, 46, 184, 0, 149, 4, 6, 184, 0, 69]
abbrev dktX2_isAskAhead_1 : List UInt8 := dkwX2_isAskAhead_1 ++ dktX2_isAskAhead_2
def dkwX2_isAskAhead_0 : List UInt8 := [42, 182, 0, 162, 16, 42, 160, 0, 45, 42, 180, 0, 29, 42, 180, 0, 146, 4, 100, 46, 16, 40]
abbrev dktX2_isAskAhead_0 : List UInt8 := dkwX2_isAskAhead_0 ++ dktX2_isAskAhead_1
theorem dksX2_isAskAhead_0 : cX2_isAskAhead.data.toList.drop 0 = dktX2_isAskAhead_0 := by decide +kernel
theorem dksX2_isAskAhead_1 : cX2_isAskAhead.data.toList.drop 22 = dktX2_isAskAhead_1 := dk_seg dksX2_isAskAhead_0 22 rfl rfl
theorem dksX2_isAskAhead_2 : cX2_isAskAhead.data.toList.drop 44 = dktX2_isAskAhead_2 := dk_seg dksX2_isAskAhead_1 22 rfl rfl
theorem dX2_isAskAhead_0 : decode cX2_isAskAhead 0 = .ok (.aload_n 0, 1) := dk_42 (dk_at dksX2_isAskAhead_0 0 rfl rfl)
theorem dX2_isAskAhead_1 : decode cX2_isAskAhead 1 = .ok (.invokevirtual 162, 3) := dk_182 0 162 (dk_at dksX2_isAskAhead_0 1 rfl rfl)
theorem dX2_isAskAhead_4 : decode cX2_isAskAhead 4 = .ok (.bipush 42, 2) := dk_16 42 (dk_at dksX2_isAskAhead_0 4 rfl rfl)
theorem dX2_isAskAhead_6 : decode cX2_isAskAhead 6 = .ok (.if_icmp .ne 45, 3) := dk_160 0 45 (dk_at dksX2_isAskAhead_0 6 rfl rfl)
theorem dX2_isAskAhead_9 : decode cX2_isAskAhead 9 = .ok (.aload_n 0, 1) := dk_42 (dk_at dksX2_isAskAhead_0 9 rfl rfl)
theorem dX2_isAskAhead_10 : decode cX2_isAskAhead 10 = .ok (.getfield 29, 3) := dk_180 0 29 (dk_at dksX2_isAskAhead_0 10 rfl rfl)
theorem dX2_isAskAhead_13 : decode cX2_isAskAhead 13 = .ok (.aload_n 0, 1) := dk_42 (dk_at dksX2_isAskAhead_0 13 rfl rfl)
theorem dX2_isAskAhead_14 : decode cX2_isAskAhead 14 = .ok (.getfield 146, 3) := dk_180 0 146 (dk_at dksX2_isAskAhead_0 14 rfl rfl)
theorem dX2_isAskAhead_17 : decode cX2_isAskAhead 17 = .ok (.iconst 1, 1) := dk_4 (dk_at dksX2_isAskAhead_0 17 rfl rfl)
theorem dX2_isAskAhead_18 : decode cX2_isAskAhead 18 = .ok (.isub, 1) := dk_100 (dk_at dksX2_isAskAhead_0 18 rfl rfl)
theorem dX2_isAskAhead_19 : decode cX2_isAskAhead 19 = .ok (.iaload, 1) := dk_46 (dk_at dksX2_isAskAhead_0 19 rfl rfl)
theorem dX2_isAskAhead_20 : decode cX2_isAskAhead 20 = .ok (.bipush 40, 2) := dk_16 40 (dk_at dksX2_isAskAhead_0 20 rfl rfl)
theorem dX2_isAskAhead_22 : decode cX2_isAskAhead 22 = .ok (.if_icmp .ge 25, 3) := dk_162 0 25 (dk_at dksX2_isAskAhead_1 0 rfl rfl)
theorem dX2_isAskAhead_25 : decode cX2_isAskAhead 25 = .ok (.aload_n 0, 1) := dk_42 (dk_at dksX2_isAskAhead_1 3 rfl rfl)
theorem dX2_isAskAhead_26 : decode cX2_isAskAhead 26 = .ok (.getfield 29, 3) := dk_180 0 29 (dk_at dksX2_isAskAhead_1 4 rfl rfl)
theorem dX2_isAskAhead_29 : decode cX2_isAskAhead 29 = .ok (.aload_n 0, 1) := dk_42 (dk_at dksX2_isAskAhead_1 7 rfl rfl)
theorem dX2_isAskAhead_30 : decode cX2_isAskAhead 30 = .ok (.getfield 146, 3) := dk_180 0 146 (dk_at dksX2_isAskAhead_1 8 rfl rfl)
theorem dX2_isAskAhead_33 : decode cX2_isAskAhead 33 = .ok (.iconst 1, 1) := dk_4 (dk_at dksX2_isAskAhead_1 11 rfl rfl)
theorem dX2_isAskAhead_34 : decode cX2_isAskAhead 34 = .ok (.isub, 1) := dk_100 (dk_at dksX2_isAskAhead_1 12 rfl rfl)
theorem dX2_isAskAhead_35 : decode cX2_isAskAhead 35 = .ok (.iaload, 1) := dk_46 (dk_at dksX2_isAskAhead_1 13 rfl rfl)
theorem dX2_isAskAhead_36 : decode cX2_isAskAhead 36 = .ok (.invokestatic 149, 3) := dk_184 0 149 (dk_at dksX2_isAskAhead_1 14 rfl rfl)
theorem dX2_isAskAhead_39 : decode cX2_isAskAhead 39 = .ok (.iconst 1, 1) := dk_4 (dk_at dksX2_isAskAhead_1 17 rfl rfl)
theorem dX2_isAskAhead_40 : decode cX2_isAskAhead 40 = .ok (.iconst 3, 1) := dk_6 (dk_at dksX2_isAskAhead_1 18 rfl rfl)
theorem dX2_isAskAhead_41 : decode cX2_isAskAhead 41 = .ok (.invokestatic 69, 3) := dk_184 0 69 (dk_at dksX2_isAskAhead_1 19 rfl rfl)
theorem dX2_isAskAhead_44 : decode cX2_isAskAhead 44 = .ok (.ifCond .eq 7, 3) := dk_153 0 7 (dk_at dksX2_isAskAhead_2 0 rfl rfl)
theorem dX2_isAskAhead_47 : decode cX2_isAskAhead 47 = .ok (.iconst 1, 1) := dk_4 (dk_at dksX2_isAskAhead_2 3 rfl rfl)
theorem dX2_isAskAhead_48 : decode cX2_isAskAhead 48 = .ok (.goto 4, 3) := dk_167 0 4 (dk_at dksX2_isAskAhead_2 4 rfl rfl)
theorem dX2_isAskAhead_51 : decode cX2_isAskAhead 51 = .ok (.iconst 0, 1) := dk_3 (dk_at dksX2_isAskAhead_2 7 rfl rfl)
theorem dX2_isAskAhead_52 : decode cX2_isAskAhead 52 = .ok (.ireturn, 1) := dk_172 (dk_at dksX2_isAskAhead_2 8 rfl rfl)
abbrev cX2_fault : ByteArray := prog_20_method_53_code
def yX2_fault : MethodName := ⟨RX2, "fault", "(I)I"⟩
def dkwX2_fault_1 : List UInt8 := [172]
abbrev dktX2_fault_1 : List UInt8 := dkwX2_fault_1 ++ []
def dkwX2_fault_0 : List UInt8 := [27, 154, 0, 10, 42, 180, 0, 22, 167, 0, 16, 27, 4, 160, 0, 10, 42, 180, 0, 26, 167, 0, 4, 2]
abbrev dktX2_fault_0 : List UInt8 := dkwX2_fault_0 ++ dktX2_fault_1
theorem dksX2_fault_0 : cX2_fault.data.toList.drop 0 = dktX2_fault_0 := by decide +kernel
theorem dksX2_fault_1 : cX2_fault.data.toList.drop 24 = dktX2_fault_1 := dk_seg dksX2_fault_0 24 rfl rfl
theorem dX2_fault_0 : decode cX2_fault 0 = .ok (.iload_n 1, 1) := dk_27 (dk_at dksX2_fault_0 0 rfl rfl)
theorem dX2_fault_1 : decode cX2_fault 1 = .ok (.ifCond .ne 10, 3) := dk_154 0 10 (dk_at dksX2_fault_0 1 rfl rfl)
theorem dX2_fault_4 : decode cX2_fault 4 = .ok (.aload_n 0, 1) := dk_42 (dk_at dksX2_fault_0 4 rfl rfl)
theorem dX2_fault_5 : decode cX2_fault 5 = .ok (.getfield 22, 3) := dk_180 0 22 (dk_at dksX2_fault_0 5 rfl rfl)
theorem dX2_fault_8 : decode cX2_fault 8 = .ok (.goto 16, 3) := dk_167 0 16 (dk_at dksX2_fault_0 8 rfl rfl)
theorem dX2_fault_11 : decode cX2_fault 11 = .ok (.iload_n 1, 1) := dk_27 (dk_at dksX2_fault_0 11 rfl rfl)
theorem dX2_fault_12 : decode cX2_fault 12 = .ok (.iconst 1, 1) := dk_4 (dk_at dksX2_fault_0 12 rfl rfl)
theorem dX2_fault_13 : decode cX2_fault 13 = .ok (.if_icmp .ne 10, 3) := dk_160 0 10 (dk_at dksX2_fault_0 13 rfl rfl)
theorem dX2_fault_16 : decode cX2_fault 16 = .ok (.aload_n 0, 1) := dk_42 (dk_at dksX2_fault_0 16 rfl rfl)
theorem dX2_fault_17 : decode cX2_fault 17 = .ok (.getfield 26, 3) := dk_180 0 26 (dk_at dksX2_fault_0 17 rfl rfl)
theorem dX2_fault_20 : decode cX2_fault 20 = .ok (.goto 4, 3) := dk_167 0 4 (dk_at dksX2_fault_0 20 rfl rfl)
theorem dX2_fault_23 : decode cX2_fault 23 = .ok (.iconst (-1), 1) := dk_2 (dk_at dksX2_fault_0 23 rfl rfl)
theorem dX2_fault_24 : decode cX2_fault 24 = .ok (.ireturn, 1) := dk_172 (dk_at dksX2_fault_1 0 rfl rfl)
abbrev cX2_by : ByteArray := prog_20_method_54_code
def yX2_by : MethodName := ⟨RX2, "by", "(I)Z"⟩
def dkwX2_by_1 : List UInt8 := [79, 4, 172]
abbrev dktX2_by_1 : List UInt8 := dkwX2_by_1 ++ []
def dkwX2_by_0 : List UInt8 := [27, 2, 42, 180, 0, 7, 4, 46, 4, 100, 184, 0, 69, 154, 0, 5, 3, 172, 42, 180, 0, 7, 5, 27]
abbrev dktX2_by_0 : List UInt8 := dkwX2_by_0 ++ dktX2_by_1
theorem dksX2_by_0 : cX2_by.data.toList.drop 0 = dktX2_by_0 := by decide +kernel
theorem dksX2_by_1 : cX2_by.data.toList.drop 24 = dktX2_by_1 := dk_seg dksX2_by_0 24 rfl rfl
theorem dX2_by_0 : decode cX2_by 0 = .ok (.iload_n 1, 1) := dk_27 (dk_at dksX2_by_0 0 rfl rfl)
theorem dX2_by_1 : decode cX2_by 1 = .ok (.iconst (-1), 1) := dk_2 (dk_at dksX2_by_0 1 rfl rfl)
theorem dX2_by_2 : decode cX2_by 2 = .ok (.aload_n 0, 1) := dk_42 (dk_at dksX2_by_0 2 rfl rfl)
theorem dX2_by_3 : decode cX2_by 3 = .ok (.getfield 7, 3) := dk_180 0 7 (dk_at dksX2_by_0 3 rfl rfl)
theorem dX2_by_6 : decode cX2_by 6 = .ok (.iconst 1, 1) := dk_4 (dk_at dksX2_by_0 6 rfl rfl)
theorem dX2_by_7 : decode cX2_by 7 = .ok (.iaload, 1) := dk_46 (dk_at dksX2_by_0 7 rfl rfl)
theorem dX2_by_8 : decode cX2_by 8 = .ok (.iconst 1, 1) := dk_4 (dk_at dksX2_by_0 8 rfl rfl)
theorem dX2_by_9 : decode cX2_by 9 = .ok (.isub, 1) := dk_100 (dk_at dksX2_by_0 9 rfl rfl)
theorem dX2_by_10 : decode cX2_by 10 = .ok (.invokestatic 69, 3) := dk_184 0 69 (dk_at dksX2_by_0 10 rfl rfl)
theorem dX2_by_13 : decode cX2_by 13 = .ok (.ifCond .ne 5, 3) := dk_154 0 5 (dk_at dksX2_by_0 13 rfl rfl)
theorem dX2_by_16 : decode cX2_by 16 = .ok (.iconst 0, 1) := dk_3 (dk_at dksX2_by_0 16 rfl rfl)
theorem dX2_by_17 : decode cX2_by 17 = .ok (.ireturn, 1) := dk_172 (dk_at dksX2_by_0 17 rfl rfl)
theorem dX2_by_18 : decode cX2_by 18 = .ok (.aload_n 0, 1) := dk_42 (dk_at dksX2_by_0 18 rfl rfl)
theorem dX2_by_19 : decode cX2_by 19 = .ok (.getfield 7, 3) := dk_180 0 7 (dk_at dksX2_by_0 19 rfl rfl)
theorem dX2_by_22 : decode cX2_by 22 = .ok (.iconst 2, 1) := dk_5 (dk_at dksX2_by_0 22 rfl rfl)
theorem dX2_by_23 : decode cX2_by 23 = .ok (.iload_n 1, 1) := dk_27 (dk_at dksX2_by_0 23 rfl rfl)
theorem dX2_by_24 : decode cX2_by 24 = .ok (.iastore, 1) := dk_79 (dk_at dksX2_by_1 0 rfl rfl)
theorem dX2_by_25 : decode cX2_by 25 = .ok (.iconst 1, 1) := dk_4 (dk_at dksX2_by_1 1 rfl rfl)
theorem dX2_by_26 : decode cX2_by 26 = .ok (.ireturn, 1) := dk_172 (dk_at dksX2_by_1 2 rfl rfl)
abbrev cX2_undo : ByteArray := prog_20_method_72_code
def yX2_undo : MethodName := ⟨RX2, "undo", "()I"⟩
def dkwX2_undo_6 : List UInt8 := [180, 0, 7, 6, 46, 172]
abbrev dktX2_undo_6 : List UInt8 := dkwX2_undo_6 ++ []
def dkwX2_undo_5 : List UInt8 := [96, 42, 180, 0, 7, 27, 4, 96, 16, 70, 96, 28, 96, 46, 79, 132, 2, 1, 167, 255, 224, 42]
abbrev dktX2_undo_5 : List UInt8 := dkwX2_undo_5 ++ dktX2_undo_6
def dkwX2_undo_4 : List UInt8 := [2, 79, 132, 2, 1, 167, 255, 233, 3, 61, 28, 16, 30, 162, 0, 32, 42, 180, 0, 7, 17, 12, 103, 28]
abbrev dktX2_undo_4 : List UInt8 := dkwX2_undo_4 ++ dktX2_undo_5
def dkwX2_undo_3 : List UInt8 := [180, 0, 7, 27, 46, 61, 28, 42, 180, 0, 7, 3, 46, 162, 0, 19, 42, 180, 0, 7, 16, 69, 28, 96]
abbrev dktX2_undo_3 : List UInt8 := dkwX2_undo_3 ++ dktX2_undo_4
def dkwX2_undo_2 : List UInt8 := [16, 6, 28, 96, 42, 180, 0, 7, 27, 4, 96, 28, 96, 46, 79, 132, 2, 1, 167, 255, 228, 42]
abbrev dktX2_undo_2 : List UInt8 := dkwX2_undo_2 ++ dktX2_undo_3
def dkwX2_undo_1 : List UInt8 := [16, 101, 42, 180, 0, 7, 6, 46, 104, 96, 60, 3, 61, 28, 16, 70, 162, 0, 28, 42, 180, 0, 7]
abbrev dktX2_undo_1 : List UInt8 := dkwX2_undo_1 ++ dktX2_undo_2
def dkwX2_undo_0 : List UInt8 := [42, 180, 0, 7, 6, 46, 154, 0, 5, 2, 172, 42, 180, 0, 7, 6, 92, 46, 4, 100, 79, 17, 0, 145]
abbrev dktX2_undo_0 : List UInt8 := dkwX2_undo_0 ++ dktX2_undo_1
theorem dksX2_undo_0 : cX2_undo.data.toList.drop 0 = dktX2_undo_0 := by decide +kernel
theorem dksX2_undo_1 : cX2_undo.data.toList.drop 24 = dktX2_undo_1 := dk_seg dksX2_undo_0 24 rfl rfl
theorem dksX2_undo_2 : cX2_undo.data.toList.drop 47 = dktX2_undo_2 := dk_seg dksX2_undo_1 23 rfl rfl
theorem dksX2_undo_3 : cX2_undo.data.toList.drop 69 = dktX2_undo_3 := dk_seg dksX2_undo_2 22 rfl rfl
theorem dksX2_undo_4 : cX2_undo.data.toList.drop 93 = dktX2_undo_4 := dk_seg dksX2_undo_3 24 rfl rfl
theorem dksX2_undo_5 : cX2_undo.data.toList.drop 117 = dktX2_undo_5 := dk_seg dksX2_undo_4 24 rfl rfl
theorem dksX2_undo_6 : cX2_undo.data.toList.drop 139 = dktX2_undo_6 := dk_seg dksX2_undo_5 22 rfl rfl
theorem dX2_undo_0 : decode cX2_undo 0 = .ok (.aload_n 0, 1) := dk_42 (dk_at dksX2_undo_0 0 rfl rfl)
theorem dX2_undo_1 : decode cX2_undo 1 = .ok (.getfield 7, 3) := dk_180 0 7 (dk_at dksX2_undo_0 1 rfl rfl)
theorem dX2_undo_4 : decode cX2_undo 4 = .ok (.iconst 3, 1) := dk_6 (dk_at dksX2_undo_0 4 rfl rfl)
theorem dX2_undo_5 : decode cX2_undo 5 = .ok (.iaload, 1) := dk_46 (dk_at dksX2_undo_0 5 rfl rfl)
theorem dX2_undo_6 : decode cX2_undo 6 = .ok (.ifCond .ne 5, 3) := dk_154 0 5 (dk_at dksX2_undo_0 6 rfl rfl)
theorem dX2_undo_9 : decode cX2_undo 9 = .ok (.iconst (-1), 1) := dk_2 (dk_at dksX2_undo_0 9 rfl rfl)
theorem dX2_undo_10 : decode cX2_undo 10 = .ok (.ireturn, 1) := dk_172 (dk_at dksX2_undo_0 10 rfl rfl)
theorem dX2_undo_11 : decode cX2_undo 11 = .ok (.aload_n 0, 1) := dk_42 (dk_at dksX2_undo_0 11 rfl rfl)
theorem dX2_undo_12 : decode cX2_undo 12 = .ok (.getfield 7, 3) := dk_180 0 7 (dk_at dksX2_undo_0 12 rfl rfl)
theorem dX2_undo_15 : decode cX2_undo 15 = .ok (.iconst 3, 1) := dk_6 (dk_at dksX2_undo_0 15 rfl rfl)
theorem dX2_undo_16 : decode cX2_undo 16 = .ok (.dup2, 1) := dk_92 (dk_at dksX2_undo_0 16 rfl rfl)
theorem dX2_undo_17 : decode cX2_undo 17 = .ok (.iaload, 1) := dk_46 (dk_at dksX2_undo_0 17 rfl rfl)
theorem dX2_undo_18 : decode cX2_undo 18 = .ok (.iconst 1, 1) := dk_4 (dk_at dksX2_undo_0 18 rfl rfl)
theorem dX2_undo_19 : decode cX2_undo 19 = .ok (.isub, 1) := dk_100 (dk_at dksX2_undo_0 19 rfl rfl)
theorem dX2_undo_20 : decode cX2_undo 20 = .ok (.iastore, 1) := dk_79 (dk_at dksX2_undo_0 20 rfl rfl)
theorem dX2_undo_21 : decode cX2_undo 21 = .ok (.sipush 145, 3) := dk_17 0 145 (dk_at dksX2_undo_0 21 rfl rfl)
theorem dX2_undo_24 : decode cX2_undo 24 = .ok (.bipush 101, 2) := dk_16 101 (dk_at dksX2_undo_1 0 rfl rfl)
theorem dX2_undo_26 : decode cX2_undo 26 = .ok (.aload_n 0, 1) := dk_42 (dk_at dksX2_undo_1 2 rfl rfl)
theorem dX2_undo_27 : decode cX2_undo 27 = .ok (.getfield 7, 3) := dk_180 0 7 (dk_at dksX2_undo_1 3 rfl rfl)
theorem dX2_undo_30 : decode cX2_undo 30 = .ok (.iconst 3, 1) := dk_6 (dk_at dksX2_undo_1 6 rfl rfl)
theorem dX2_undo_31 : decode cX2_undo 31 = .ok (.iaload, 1) := dk_46 (dk_at dksX2_undo_1 7 rfl rfl)
theorem dX2_undo_32 : decode cX2_undo 32 = .ok (.imul, 1) := dk_104 (dk_at dksX2_undo_1 8 rfl rfl)
theorem dX2_undo_33 : decode cX2_undo 33 = .ok (.iadd, 1) := dk_96 (dk_at dksX2_undo_1 9 rfl rfl)
theorem dX2_undo_34 : decode cX2_undo 34 = .ok (.istore_n 1, 1) := dk_60 (dk_at dksX2_undo_1 10 rfl rfl)
theorem dX2_undo_35 : decode cX2_undo 35 = .ok (.iconst 0, 1) := dk_3 (dk_at dksX2_undo_1 11 rfl rfl)
theorem dX2_undo_36 : decode cX2_undo 36 = .ok (.istore_n 2, 1) := dk_61 (dk_at dksX2_undo_1 12 rfl rfl)
theorem dX2_undo_37 : decode cX2_undo 37 = .ok (.iload_n 2, 1) := dk_28 (dk_at dksX2_undo_1 13 rfl rfl)
theorem dX2_undo_38 : decode cX2_undo 38 = .ok (.bipush 70, 2) := dk_16 70 (dk_at dksX2_undo_1 14 rfl rfl)
theorem dX2_undo_40 : decode cX2_undo 40 = .ok (.if_icmp .ge 28, 3) := dk_162 0 28 (dk_at dksX2_undo_1 16 rfl rfl)
theorem dX2_undo_43 : decode cX2_undo 43 = .ok (.aload_n 0, 1) := dk_42 (dk_at dksX2_undo_1 19 rfl rfl)
theorem dX2_undo_44 : decode cX2_undo 44 = .ok (.getfield 7, 3) := dk_180 0 7 (dk_at dksX2_undo_1 20 rfl rfl)
theorem dX2_undo_47 : decode cX2_undo 47 = .ok (.bipush 6, 2) := dk_16 6 (dk_at dksX2_undo_2 0 rfl rfl)
theorem dX2_undo_49 : decode cX2_undo 49 = .ok (.iload_n 2, 1) := dk_28 (dk_at dksX2_undo_2 2 rfl rfl)
theorem dX2_undo_50 : decode cX2_undo 50 = .ok (.iadd, 1) := dk_96 (dk_at dksX2_undo_2 3 rfl rfl)
theorem dX2_undo_51 : decode cX2_undo 51 = .ok (.aload_n 0, 1) := dk_42 (dk_at dksX2_undo_2 4 rfl rfl)
theorem dX2_undo_52 : decode cX2_undo 52 = .ok (.getfield 7, 3) := dk_180 0 7 (dk_at dksX2_undo_2 5 rfl rfl)
theorem dX2_undo_55 : decode cX2_undo 55 = .ok (.iload_n 1, 1) := dk_27 (dk_at dksX2_undo_2 8 rfl rfl)
theorem dX2_undo_56 : decode cX2_undo 56 = .ok (.iconst 1, 1) := dk_4 (dk_at dksX2_undo_2 9 rfl rfl)
theorem dX2_undo_57 : decode cX2_undo 57 = .ok (.iadd, 1) := dk_96 (dk_at dksX2_undo_2 10 rfl rfl)
theorem dX2_undo_58 : decode cX2_undo 58 = .ok (.iload_n 2, 1) := dk_28 (dk_at dksX2_undo_2 11 rfl rfl)
theorem dX2_undo_59 : decode cX2_undo 59 = .ok (.iadd, 1) := dk_96 (dk_at dksX2_undo_2 12 rfl rfl)
theorem dX2_undo_60 : decode cX2_undo 60 = .ok (.iaload, 1) := dk_46 (dk_at dksX2_undo_2 13 rfl rfl)
theorem dX2_undo_61 : decode cX2_undo 61 = .ok (.iastore, 1) := dk_79 (dk_at dksX2_undo_2 14 rfl rfl)
theorem dX2_undo_62 : decode cX2_undo 62 = .ok (.iinc 2 1, 3) := dk_132 2 1 (dk_at dksX2_undo_2 15 rfl rfl)
theorem dX2_undo_65 : decode cX2_undo 65 = .ok (.goto (-28), 3) := dk_167 255 228 (dk_at dksX2_undo_2 18 rfl rfl)
theorem dX2_undo_68 : decode cX2_undo 68 = .ok (.aload_n 0, 1) := dk_42 (dk_at dksX2_undo_2 21 rfl rfl)
theorem dX2_undo_69 : decode cX2_undo 69 = .ok (.getfield 7, 3) := dk_180 0 7 (dk_at dksX2_undo_3 0 rfl rfl)
theorem dX2_undo_72 : decode cX2_undo 72 = .ok (.iload_n 1, 1) := dk_27 (dk_at dksX2_undo_3 3 rfl rfl)
theorem dX2_undo_73 : decode cX2_undo 73 = .ok (.iaload, 1) := dk_46 (dk_at dksX2_undo_3 4 rfl rfl)
theorem dX2_undo_74 : decode cX2_undo 74 = .ok (.istore_n 2, 1) := dk_61 (dk_at dksX2_undo_3 5 rfl rfl)
theorem dX2_undo_75 : decode cX2_undo 75 = .ok (.iload_n 2, 1) := dk_28 (dk_at dksX2_undo_3 6 rfl rfl)
theorem dX2_undo_76 : decode cX2_undo 76 = .ok (.aload_n 0, 1) := dk_42 (dk_at dksX2_undo_3 7 rfl rfl)
theorem dX2_undo_77 : decode cX2_undo 77 = .ok (.getfield 7, 3) := dk_180 0 7 (dk_at dksX2_undo_3 8 rfl rfl)
theorem dX2_undo_80 : decode cX2_undo 80 = .ok (.iconst 0, 1) := dk_3 (dk_at dksX2_undo_3 11 rfl rfl)
theorem dX2_undo_81 : decode cX2_undo 81 = .ok (.iaload, 1) := dk_46 (dk_at dksX2_undo_3 12 rfl rfl)
theorem dX2_undo_82 : decode cX2_undo 82 = .ok (.if_icmp .ge 19, 3) := dk_162 0 19 (dk_at dksX2_undo_3 13 rfl rfl)
theorem dX2_undo_85 : decode cX2_undo 85 = .ok (.aload_n 0, 1) := dk_42 (dk_at dksX2_undo_3 16 rfl rfl)
theorem dX2_undo_86 : decode cX2_undo 86 = .ok (.getfield 7, 3) := dk_180 0 7 (dk_at dksX2_undo_3 17 rfl rfl)
theorem dX2_undo_89 : decode cX2_undo 89 = .ok (.bipush 69, 2) := dk_16 69 (dk_at dksX2_undo_3 20 rfl rfl)
theorem dX2_undo_91 : decode cX2_undo 91 = .ok (.iload_n 2, 1) := dk_28 (dk_at dksX2_undo_3 22 rfl rfl)
theorem dX2_undo_92 : decode cX2_undo 92 = .ok (.iadd, 1) := dk_96 (dk_at dksX2_undo_3 23 rfl rfl)
theorem dX2_undo_93 : decode cX2_undo 93 = .ok (.iconst (-1), 1) := dk_2 (dk_at dksX2_undo_4 0 rfl rfl)
theorem dX2_undo_94 : decode cX2_undo 94 = .ok (.iastore, 1) := dk_79 (dk_at dksX2_undo_4 1 rfl rfl)
theorem dX2_undo_95 : decode cX2_undo 95 = .ok (.iinc 2 1, 3) := dk_132 2 1 (dk_at dksX2_undo_4 2 rfl rfl)
theorem dX2_undo_98 : decode cX2_undo 98 = .ok (.goto (-23), 3) := dk_167 255 233 (dk_at dksX2_undo_4 5 rfl rfl)
theorem dX2_undo_101 : decode cX2_undo 101 = .ok (.iconst 0, 1) := dk_3 (dk_at dksX2_undo_4 8 rfl rfl)
theorem dX2_undo_102 : decode cX2_undo 102 = .ok (.istore_n 2, 1) := dk_61 (dk_at dksX2_undo_4 9 rfl rfl)
theorem dX2_undo_103 : decode cX2_undo 103 = .ok (.iload_n 2, 1) := dk_28 (dk_at dksX2_undo_4 10 rfl rfl)
theorem dX2_undo_104 : decode cX2_undo 104 = .ok (.bipush 30, 2) := dk_16 30 (dk_at dksX2_undo_4 11 rfl rfl)
theorem dX2_undo_106 : decode cX2_undo 106 = .ok (.if_icmp .ge 32, 3) := dk_162 0 32 (dk_at dksX2_undo_4 13 rfl rfl)
theorem dX2_undo_109 : decode cX2_undo 109 = .ok (.aload_n 0, 1) := dk_42 (dk_at dksX2_undo_4 16 rfl rfl)
theorem dX2_undo_110 : decode cX2_undo 110 = .ok (.getfield 7, 3) := dk_180 0 7 (dk_at dksX2_undo_4 17 rfl rfl)
theorem dX2_undo_113 : decode cX2_undo 113 = .ok (.sipush 3175, 3) := dk_17 12 103 (dk_at dksX2_undo_4 20 rfl rfl)
theorem dX2_undo_116 : decode cX2_undo 116 = .ok (.iload_n 2, 1) := dk_28 (dk_at dksX2_undo_4 23 rfl rfl)
theorem dX2_undo_117 : decode cX2_undo 117 = .ok (.iadd, 1) := dk_96 (dk_at dksX2_undo_5 0 rfl rfl)
theorem dX2_undo_118 : decode cX2_undo 118 = .ok (.aload_n 0, 1) := dk_42 (dk_at dksX2_undo_5 1 rfl rfl)
theorem dX2_undo_119 : decode cX2_undo 119 = .ok (.getfield 7, 3) := dk_180 0 7 (dk_at dksX2_undo_5 2 rfl rfl)
theorem dX2_undo_122 : decode cX2_undo 122 = .ok (.iload_n 1, 1) := dk_27 (dk_at dksX2_undo_5 5 rfl rfl)
theorem dX2_undo_123 : decode cX2_undo 123 = .ok (.iconst 1, 1) := dk_4 (dk_at dksX2_undo_5 6 rfl rfl)
theorem dX2_undo_124 : decode cX2_undo 124 = .ok (.iadd, 1) := dk_96 (dk_at dksX2_undo_5 7 rfl rfl)
theorem dX2_undo_125 : decode cX2_undo 125 = .ok (.bipush 70, 2) := dk_16 70 (dk_at dksX2_undo_5 8 rfl rfl)
theorem dX2_undo_127 : decode cX2_undo 127 = .ok (.iadd, 1) := dk_96 (dk_at dksX2_undo_5 10 rfl rfl)
theorem dX2_undo_128 : decode cX2_undo 128 = .ok (.iload_n 2, 1) := dk_28 (dk_at dksX2_undo_5 11 rfl rfl)
theorem dX2_undo_129 : decode cX2_undo 129 = .ok (.iadd, 1) := dk_96 (dk_at dksX2_undo_5 12 rfl rfl)
theorem dX2_undo_130 : decode cX2_undo 130 = .ok (.iaload, 1) := dk_46 (dk_at dksX2_undo_5 13 rfl rfl)
theorem dX2_undo_131 : decode cX2_undo 131 = .ok (.iastore, 1) := dk_79 (dk_at dksX2_undo_5 14 rfl rfl)
theorem dX2_undo_132 : decode cX2_undo 132 = .ok (.iinc 2 1, 3) := dk_132 2 1 (dk_at dksX2_undo_5 15 rfl rfl)
theorem dX2_undo_135 : decode cX2_undo 135 = .ok (.goto (-32), 3) := dk_167 255 224 (dk_at dksX2_undo_5 18 rfl rfl)
theorem dX2_undo_138 : decode cX2_undo 138 = .ok (.aload_n 0, 1) := dk_42 (dk_at dksX2_undo_5 21 rfl rfl)
theorem dX2_undo_139 : decode cX2_undo 139 = .ok (.getfield 7, 3) := dk_180 0 7 (dk_at dksX2_undo_6 0 rfl rfl)
theorem dX2_undo_142 : decode cX2_undo 142 = .ok (.iconst 3, 1) := dk_6 (dk_at dksX2_undo_6 3 rfl rfl)
theorem dX2_undo_143 : decode cX2_undo 143 = .ok (.iaload, 1) := dk_46 (dk_at dksX2_undo_6 4 rfl rfl)
theorem dX2_undo_144 : decode cX2_undo 144 = .ok (.ireturn, 1) := dk_172 (dk_at dksX2_undo_6 5 rfl rfl)
abbrev cX2_run : ByteArray := prog_20_method_74_code
def yX2_run : MethodName := ⟨RX2, "run", "(II)I"⟩
def dkwX2_run_1 : List UInt8 := [182, 1, 60, 42, 180, 0, 7, 16, 69, 27, 96, 46, 172]
abbrev dktX2_run_1 : List UInt8 := dkwX2_run_1 ++ []
def dkwX2_run_0 : List UInt8 := [42, 27, 182, 1, 69, 153, 0, 10, 28, 184, 0, 73, 154, 0, 5, 2, 172, 42, 182, 1, 72, 42, 27, 28]
abbrev dktX2_run_0 : List UInt8 := dkwX2_run_0 ++ dktX2_run_1
theorem dksX2_run_0 : cX2_run.data.toList.drop 0 = dktX2_run_0 := by decide +kernel
theorem dksX2_run_1 : cX2_run.data.toList.drop 24 = dktX2_run_1 := dk_seg dksX2_run_0 24 rfl rfl
theorem dX2_run_0 : decode cX2_run 0 = .ok (.aload_n 0, 1) := dk_42 (dk_at dksX2_run_0 0 rfl rfl)
theorem dX2_run_1 : decode cX2_run 1 = .ok (.iload_n 1, 1) := dk_27 (dk_at dksX2_run_0 1 rfl rfl)
theorem dX2_run_2 : decode cX2_run 2 = .ok (.invokevirtual 325, 3) := dk_182 1 69 (dk_at dksX2_run_0 2 rfl rfl)
theorem dX2_run_5 : decode cX2_run 5 = .ok (.ifCond .eq 10, 3) := dk_153 0 10 (dk_at dksX2_run_0 5 rfl rfl)
theorem dX2_run_8 : decode cX2_run 8 = .ok (.iload_n 2, 1) := dk_28 (dk_at dksX2_run_0 8 rfl rfl)
theorem dX2_run_9 : decode cX2_run 9 = .ok (.invokestatic 73, 3) := dk_184 0 73 (dk_at dksX2_run_0 9 rfl rfl)
theorem dX2_run_12 : decode cX2_run 12 = .ok (.ifCond .ne 5, 3) := dk_154 0 5 (dk_at dksX2_run_0 12 rfl rfl)
theorem dX2_run_15 : decode cX2_run 15 = .ok (.iconst (-1), 1) := dk_2 (dk_at dksX2_run_0 15 rfl rfl)
theorem dX2_run_16 : decode cX2_run 16 = .ok (.ireturn, 1) := dk_172 (dk_at dksX2_run_0 16 rfl rfl)
theorem dX2_run_17 : decode cX2_run 17 = .ok (.aload_n 0, 1) := dk_42 (dk_at dksX2_run_0 17 rfl rfl)
theorem dX2_run_18 : decode cX2_run 18 = .ok (.invokevirtual 328, 3) := dk_182 1 72 (dk_at dksX2_run_0 18 rfl rfl)
theorem dX2_run_21 : decode cX2_run 21 = .ok (.aload_n 0, 1) := dk_42 (dk_at dksX2_run_0 21 rfl rfl)
theorem dX2_run_22 : decode cX2_run 22 = .ok (.iload_n 1, 1) := dk_27 (dk_at dksX2_run_0 22 rfl rfl)
theorem dX2_run_23 : decode cX2_run 23 = .ok (.iload_n 2, 1) := dk_28 (dk_at dksX2_run_0 23 rfl rfl)
theorem dX2_run_24 : decode cX2_run 24 = .ok (.invokevirtual 316, 3) := dk_182 1 60 (dk_at dksX2_run_1 0 rfl rfl)
theorem dX2_run_27 : decode cX2_run 27 = .ok (.aload_n 0, 1) := dk_42 (dk_at dksX2_run_1 3 rfl rfl)
theorem dX2_run_28 : decode cX2_run 28 = .ok (.getfield 7, 3) := dk_180 0 7 (dk_at dksX2_run_1 4 rfl rfl)
theorem dX2_run_31 : decode cX2_run 31 = .ok (.bipush 69, 2) := dk_16 69 (dk_at dksX2_run_1 7 rfl rfl)
theorem dX2_run_33 : decode cX2_run 33 = .ok (.iload_n 1, 1) := dk_27 (dk_at dksX2_run_1 9 rfl rfl)
theorem dX2_run_34 : decode cX2_run 34 = .ok (.iadd, 1) := dk_96 (dk_at dksX2_run_1 10 rfl rfl)
theorem dX2_run_35 : decode cX2_run 35 = .ok (.iaload, 1) := dk_46 (dk_at dksX2_run_1 11 rfl rfl)
theorem dX2_run_36 : decode cX2_run 36 = .ok (.ireturn, 1) := dk_172 (dk_at dksX2_run_1 12 rfl rfl)
abbrev cX2_canRun : ByteArray := prog_20_method_73_code
def yX2_canRun : MethodName := ⟨RX2, "canRun", "(I)Z"⟩
def dkwX2_canRun_1 : List UInt8 := [167, 0, 4, 3, 172]
abbrev dktX2_canRun_1 : List UInt8 := dkwX2_canRun_1 ++ []
def dkwX2_canRun_0 : List UInt8 := [42, 27, 182, 1, 66, 153, 0, 20, 42, 180, 0, 7, 16, 69, 27, 96, 46, 2, 160, 0, 7, 4]
abbrev dktX2_canRun_0 : List UInt8 := dkwX2_canRun_0 ++ dktX2_canRun_1
theorem dksX2_canRun_0 : cX2_canRun.data.toList.drop 0 = dktX2_canRun_0 := by decide +kernel
theorem dksX2_canRun_1 : cX2_canRun.data.toList.drop 22 = dktX2_canRun_1 := dk_seg dksX2_canRun_0 22 rfl rfl
theorem dX2_canRun_0 : decode cX2_canRun 0 = .ok (.aload_n 0, 1) := dk_42 (dk_at dksX2_canRun_0 0 rfl rfl)
theorem dX2_canRun_1 : decode cX2_canRun 1 = .ok (.iload_n 1, 1) := dk_27 (dk_at dksX2_canRun_0 1 rfl rfl)
theorem dX2_canRun_2 : decode cX2_canRun 2 = .ok (.invokevirtual 322, 3) := dk_182 1 66 (dk_at dksX2_canRun_0 2 rfl rfl)
theorem dX2_canRun_5 : decode cX2_canRun 5 = .ok (.ifCond .eq 20, 3) := dk_153 0 20 (dk_at dksX2_canRun_0 5 rfl rfl)
theorem dX2_canRun_8 : decode cX2_canRun 8 = .ok (.aload_n 0, 1) := dk_42 (dk_at dksX2_canRun_0 8 rfl rfl)
theorem dX2_canRun_9 : decode cX2_canRun 9 = .ok (.getfield 7, 3) := dk_180 0 7 (dk_at dksX2_canRun_0 9 rfl rfl)
theorem dX2_canRun_12 : decode cX2_canRun 12 = .ok (.bipush 69, 2) := dk_16 69 (dk_at dksX2_canRun_0 12 rfl rfl)
theorem dX2_canRun_14 : decode cX2_canRun 14 = .ok (.iload_n 1, 1) := dk_27 (dk_at dksX2_canRun_0 14 rfl rfl)
theorem dX2_canRun_15 : decode cX2_canRun 15 = .ok (.iadd, 1) := dk_96 (dk_at dksX2_canRun_0 15 rfl rfl)
theorem dX2_canRun_16 : decode cX2_canRun 16 = .ok (.iaload, 1) := dk_46 (dk_at dksX2_canRun_0 16 rfl rfl)
theorem dX2_canRun_17 : decode cX2_canRun 17 = .ok (.iconst (-1), 1) := dk_2 (dk_at dksX2_canRun_0 17 rfl rfl)
theorem dX2_canRun_18 : decode cX2_canRun 18 = .ok (.if_icmp .ne 7, 3) := dk_160 0 7 (dk_at dksX2_canRun_0 18 rfl rfl)
theorem dX2_canRun_21 : decode cX2_canRun 21 = .ok (.iconst 1, 1) := dk_4 (dk_at dksX2_canRun_0 21 rfl rfl)
theorem dX2_canRun_22 : decode cX2_canRun 22 = .ok (.goto 4, 3) := dk_167 0 4 (dk_at dksX2_canRun_1 0 rfl rfl)
theorem dX2_canRun_25 : decode cX2_canRun 25 = .ok (.iconst 0, 1) := dk_3 (dk_at dksX2_canRun_1 3 rfl rfl)
theorem dX2_canRun_26 : decode cX2_canRun 26 = .ok (.ireturn, 1) := dk_172 (dk_at dksX2_canRun_1 4 rfl rfl)
abbrev cX2_isChild : ByteArray := prog_20_method_8_code
def yX2_isChild : MethodName := ⟨RX2, "isChild", "(I)Z"⟩
def dkwX2_isChild_0 : List UInt8 := [27, 3, 42, 180, 0, 7, 3, 46, 4, 100, 184, 0, 69, 172]
abbrev dktX2_isChild_0 : List UInt8 := dkwX2_isChild_0 ++ []
theorem dksX2_isChild_0 : cX2_isChild.data.toList.drop 0 = dktX2_isChild_0 := by decide +kernel
theorem dX2_isChild_0 : decode cX2_isChild 0 = .ok (.iload_n 1, 1) := dk_27 (dk_at dksX2_isChild_0 0 rfl rfl)
theorem dX2_isChild_1 : decode cX2_isChild 1 = .ok (.iconst 0, 1) := dk_3 (dk_at dksX2_isChild_0 1 rfl rfl)
theorem dX2_isChild_2 : decode cX2_isChild 2 = .ok (.aload_n 0, 1) := dk_42 (dk_at dksX2_isChild_0 2 rfl rfl)
theorem dX2_isChild_3 : decode cX2_isChild 3 = .ok (.getfield 7, 3) := dk_180 0 7 (dk_at dksX2_isChild_0 3 rfl rfl)
theorem dX2_isChild_6 : decode cX2_isChild 6 = .ok (.iconst 0, 1) := dk_3 (dk_at dksX2_isChild_0 6 rfl rfl)
theorem dX2_isChild_7 : decode cX2_isChild 7 = .ok (.iaload, 1) := dk_46 (dk_at dksX2_isChild_0 7 rfl rfl)
theorem dX2_isChild_8 : decode cX2_isChild 8 = .ok (.iconst 1, 1) := dk_4 (dk_at dksX2_isChild_0 8 rfl rfl)
theorem dX2_isChild_9 : decode cX2_isChild 9 = .ok (.isub, 1) := dk_100 (dk_at dksX2_isChild_0 9 rfl rfl)
theorem dX2_isChild_10 : decode cX2_isChild 10 = .ok (.invokestatic 69, 3) := dk_184 0 69 (dk_at dksX2_isChild_0 10 rfl rfl)
theorem dX2_isChild_13 : decode cX2_isChild 13 = .ok (.ireturn, 1) := dk_172 (dk_at dksX2_isChild_0 13 rfl rfl)
abbrev cX2_keep : ByteArray := prog_20_method_71_code
def yX2_keep : MethodName := ⟨RX2, "keep", "()V"⟩
def dkwX2_keep_6 : List UInt8 := [28, 96, 46, 79, 132, 2, 1, 167, 255, 224, 42, 180, 0, 7, 6, 92, 46, 4, 96, 79, 177]
abbrev dktX2_keep_6 : List UInt8 := dkwX2_keep_6 ++ []
def dkwX2_keep_5 : List UInt8 := [16, 30, 162, 0, 32, 42, 180, 0, 7, 27, 4, 96, 16, 70, 96, 28, 96, 42, 180, 0, 7, 17, 12, 103]
abbrev dktX2_keep_5 : List UInt8 := dkwX2_keep_5 ++ dktX2_keep_6
def dkwX2_keep_4 : List UInt8 := [4, 96, 28, 96, 42, 180, 0, 7, 16, 6, 28, 96, 46, 79, 132, 2, 1, 167, 255, 228, 3, 61, 28]
abbrev dktX2_keep_4 : List UInt8 := dkwX2_keep_4 ++ dktX2_keep_5
def dkwX2_keep_3 : List UInt8 := [180, 0, 7, 27, 42, 180, 0, 7, 3, 46, 79, 3, 61, 28, 16, 70, 162, 0, 28, 42, 180, 0, 7, 27]
abbrev dktX2_keep_3 : List UInt8 := dkwX2_keep_3 ++ dktX2_keep_4
def dkwX2_keep_2 : List UInt8 := [180, 0, 7, 6, 92, 46, 4, 100, 79, 17, 0, 145, 16, 101, 42, 180, 0, 7, 6, 46, 104, 96, 60, 42]
abbrev dktX2_keep_2 : List UInt8 := dkwX2_keep_2 ++ dktX2_keep_3
def dkwX2_keep_1 : List UInt8 := [17, 0, 145, 27, 96, 42, 180, 0, 7, 17, 0, 246, 27, 96, 46, 79, 132, 1, 1, 167, 255, 226, 42]
abbrev dktX2_keep_1 : List UInt8 := dkwX2_keep_1 ++ dktX2_keep_2
def dkwX2_keep_0 : List UInt8 := [42, 180, 0, 7, 6, 46, 16, 30, 160, 0, 48, 3, 60, 27, 17, 11, 113, 162, 0, 29, 42, 180, 0, 7]
abbrev dktX2_keep_0 : List UInt8 := dkwX2_keep_0 ++ dktX2_keep_1
theorem dksX2_keep_0 : cX2_keep.data.toList.drop 0 = dktX2_keep_0 := by decide +kernel
theorem dksX2_keep_1 : cX2_keep.data.toList.drop 24 = dktX2_keep_1 := dk_seg dksX2_keep_0 24 rfl rfl
theorem dksX2_keep_2 : cX2_keep.data.toList.drop 47 = dktX2_keep_2 := dk_seg dksX2_keep_1 23 rfl rfl
theorem dksX2_keep_3 : cX2_keep.data.toList.drop 71 = dktX2_keep_3 := dk_seg dksX2_keep_2 24 rfl rfl
theorem dksX2_keep_4 : cX2_keep.data.toList.drop 95 = dktX2_keep_4 := dk_seg dksX2_keep_3 24 rfl rfl
theorem dksX2_keep_5 : cX2_keep.data.toList.drop 118 = dktX2_keep_5 := dk_seg dksX2_keep_4 23 rfl rfl
theorem dksX2_keep_6 : cX2_keep.data.toList.drop 142 = dktX2_keep_6 := dk_seg dksX2_keep_5 24 rfl rfl
theorem dX2_keep_0 : decode cX2_keep 0 = .ok (.aload_n 0, 1) := dk_42 (dk_at dksX2_keep_0 0 rfl rfl)
theorem dX2_keep_1 : decode cX2_keep 1 = .ok (.getfield 7, 3) := dk_180 0 7 (dk_at dksX2_keep_0 1 rfl rfl)
theorem dX2_keep_4 : decode cX2_keep 4 = .ok (.iconst 3, 1) := dk_6 (dk_at dksX2_keep_0 4 rfl rfl)
theorem dX2_keep_5 : decode cX2_keep 5 = .ok (.iaload, 1) := dk_46 (dk_at dksX2_keep_0 5 rfl rfl)
theorem dX2_keep_6 : decode cX2_keep 6 = .ok (.bipush 30, 2) := dk_16 30 (dk_at dksX2_keep_0 6 rfl rfl)
theorem dX2_keep_8 : decode cX2_keep 8 = .ok (.if_icmp .ne 48, 3) := dk_160 0 48 (dk_at dksX2_keep_0 8 rfl rfl)
theorem dX2_keep_11 : decode cX2_keep 11 = .ok (.iconst 0, 1) := dk_3 (dk_at dksX2_keep_0 11 rfl rfl)
theorem dX2_keep_12 : decode cX2_keep 12 = .ok (.istore_n 1, 1) := dk_60 (dk_at dksX2_keep_0 12 rfl rfl)
theorem dX2_keep_13 : decode cX2_keep 13 = .ok (.iload_n 1, 1) := dk_27 (dk_at dksX2_keep_0 13 rfl rfl)
theorem dX2_keep_14 : decode cX2_keep 14 = .ok (.sipush 2929, 3) := dk_17 11 113 (dk_at dksX2_keep_0 14 rfl rfl)
theorem dX2_keep_17 : decode cX2_keep 17 = .ok (.if_icmp .ge 29, 3) := dk_162 0 29 (dk_at dksX2_keep_0 17 rfl rfl)
theorem dX2_keep_20 : decode cX2_keep 20 = .ok (.aload_n 0, 1) := dk_42 (dk_at dksX2_keep_0 20 rfl rfl)
theorem dX2_keep_21 : decode cX2_keep 21 = .ok (.getfield 7, 3) := dk_180 0 7 (dk_at dksX2_keep_0 21 rfl rfl)
theorem dX2_keep_24 : decode cX2_keep 24 = .ok (.sipush 145, 3) := dk_17 0 145 (dk_at dksX2_keep_1 0 rfl rfl)
theorem dX2_keep_27 : decode cX2_keep 27 = .ok (.iload_n 1, 1) := dk_27 (dk_at dksX2_keep_1 3 rfl rfl)
theorem dX2_keep_28 : decode cX2_keep 28 = .ok (.iadd, 1) := dk_96 (dk_at dksX2_keep_1 4 rfl rfl)
theorem dX2_keep_29 : decode cX2_keep 29 = .ok (.aload_n 0, 1) := dk_42 (dk_at dksX2_keep_1 5 rfl rfl)
theorem dX2_keep_30 : decode cX2_keep 30 = .ok (.getfield 7, 3) := dk_180 0 7 (dk_at dksX2_keep_1 6 rfl rfl)
theorem dX2_keep_33 : decode cX2_keep 33 = .ok (.sipush 246, 3) := dk_17 0 246 (dk_at dksX2_keep_1 9 rfl rfl)
theorem dX2_keep_36 : decode cX2_keep 36 = .ok (.iload_n 1, 1) := dk_27 (dk_at dksX2_keep_1 12 rfl rfl)
theorem dX2_keep_37 : decode cX2_keep 37 = .ok (.iadd, 1) := dk_96 (dk_at dksX2_keep_1 13 rfl rfl)
theorem dX2_keep_38 : decode cX2_keep 38 = .ok (.iaload, 1) := dk_46 (dk_at dksX2_keep_1 14 rfl rfl)
theorem dX2_keep_39 : decode cX2_keep 39 = .ok (.iastore, 1) := dk_79 (dk_at dksX2_keep_1 15 rfl rfl)
theorem dX2_keep_40 : decode cX2_keep 40 = .ok (.iinc 1 1, 3) := dk_132 1 1 (dk_at dksX2_keep_1 16 rfl rfl)
theorem dX2_keep_43 : decode cX2_keep 43 = .ok (.goto (-30), 3) := dk_167 255 226 (dk_at dksX2_keep_1 19 rfl rfl)
theorem dX2_keep_46 : decode cX2_keep 46 = .ok (.aload_n 0, 1) := dk_42 (dk_at dksX2_keep_1 22 rfl rfl)
theorem dX2_keep_47 : decode cX2_keep 47 = .ok (.getfield 7, 3) := dk_180 0 7 (dk_at dksX2_keep_2 0 rfl rfl)
theorem dX2_keep_50 : decode cX2_keep 50 = .ok (.iconst 3, 1) := dk_6 (dk_at dksX2_keep_2 3 rfl rfl)
theorem dX2_keep_51 : decode cX2_keep 51 = .ok (.dup2, 1) := dk_92 (dk_at dksX2_keep_2 4 rfl rfl)
theorem dX2_keep_52 : decode cX2_keep 52 = .ok (.iaload, 1) := dk_46 (dk_at dksX2_keep_2 5 rfl rfl)
theorem dX2_keep_53 : decode cX2_keep 53 = .ok (.iconst 1, 1) := dk_4 (dk_at dksX2_keep_2 6 rfl rfl)
theorem dX2_keep_54 : decode cX2_keep 54 = .ok (.isub, 1) := dk_100 (dk_at dksX2_keep_2 7 rfl rfl)
theorem dX2_keep_55 : decode cX2_keep 55 = .ok (.iastore, 1) := dk_79 (dk_at dksX2_keep_2 8 rfl rfl)
theorem dX2_keep_56 : decode cX2_keep 56 = .ok (.sipush 145, 3) := dk_17 0 145 (dk_at dksX2_keep_2 9 rfl rfl)
theorem dX2_keep_59 : decode cX2_keep 59 = .ok (.bipush 101, 2) := dk_16 101 (dk_at dksX2_keep_2 12 rfl rfl)
theorem dX2_keep_61 : decode cX2_keep 61 = .ok (.aload_n 0, 1) := dk_42 (dk_at dksX2_keep_2 14 rfl rfl)
theorem dX2_keep_62 : decode cX2_keep 62 = .ok (.getfield 7, 3) := dk_180 0 7 (dk_at dksX2_keep_2 15 rfl rfl)
theorem dX2_keep_65 : decode cX2_keep 65 = .ok (.iconst 3, 1) := dk_6 (dk_at dksX2_keep_2 18 rfl rfl)
theorem dX2_keep_66 : decode cX2_keep 66 = .ok (.iaload, 1) := dk_46 (dk_at dksX2_keep_2 19 rfl rfl)
theorem dX2_keep_67 : decode cX2_keep 67 = .ok (.imul, 1) := dk_104 (dk_at dksX2_keep_2 20 rfl rfl)
theorem dX2_keep_68 : decode cX2_keep 68 = .ok (.iadd, 1) := dk_96 (dk_at dksX2_keep_2 21 rfl rfl)
theorem dX2_keep_69 : decode cX2_keep 69 = .ok (.istore_n 1, 1) := dk_60 (dk_at dksX2_keep_2 22 rfl rfl)
theorem dX2_keep_70 : decode cX2_keep 70 = .ok (.aload_n 0, 1) := dk_42 (dk_at dksX2_keep_2 23 rfl rfl)
theorem dX2_keep_71 : decode cX2_keep 71 = .ok (.getfield 7, 3) := dk_180 0 7 (dk_at dksX2_keep_3 0 rfl rfl)
theorem dX2_keep_74 : decode cX2_keep 74 = .ok (.iload_n 1, 1) := dk_27 (dk_at dksX2_keep_3 3 rfl rfl)
theorem dX2_keep_75 : decode cX2_keep 75 = .ok (.aload_n 0, 1) := dk_42 (dk_at dksX2_keep_3 4 rfl rfl)
theorem dX2_keep_76 : decode cX2_keep 76 = .ok (.getfield 7, 3) := dk_180 0 7 (dk_at dksX2_keep_3 5 rfl rfl)
theorem dX2_keep_79 : decode cX2_keep 79 = .ok (.iconst 0, 1) := dk_3 (dk_at dksX2_keep_3 8 rfl rfl)
theorem dX2_keep_80 : decode cX2_keep 80 = .ok (.iaload, 1) := dk_46 (dk_at dksX2_keep_3 9 rfl rfl)
theorem dX2_keep_81 : decode cX2_keep 81 = .ok (.iastore, 1) := dk_79 (dk_at dksX2_keep_3 10 rfl rfl)
theorem dX2_keep_82 : decode cX2_keep 82 = .ok (.iconst 0, 1) := dk_3 (dk_at dksX2_keep_3 11 rfl rfl)
theorem dX2_keep_83 : decode cX2_keep 83 = .ok (.istore_n 2, 1) := dk_61 (dk_at dksX2_keep_3 12 rfl rfl)
theorem dX2_keep_84 : decode cX2_keep 84 = .ok (.iload_n 2, 1) := dk_28 (dk_at dksX2_keep_3 13 rfl rfl)
theorem dX2_keep_85 : decode cX2_keep 85 = .ok (.bipush 70, 2) := dk_16 70 (dk_at dksX2_keep_3 14 rfl rfl)
theorem dX2_keep_87 : decode cX2_keep 87 = .ok (.if_icmp .ge 28, 3) := dk_162 0 28 (dk_at dksX2_keep_3 16 rfl rfl)
theorem dX2_keep_90 : decode cX2_keep 90 = .ok (.aload_n 0, 1) := dk_42 (dk_at dksX2_keep_3 19 rfl rfl)
theorem dX2_keep_91 : decode cX2_keep 91 = .ok (.getfield 7, 3) := dk_180 0 7 (dk_at dksX2_keep_3 20 rfl rfl)
theorem dX2_keep_94 : decode cX2_keep 94 = .ok (.iload_n 1, 1) := dk_27 (dk_at dksX2_keep_3 23 rfl rfl)
theorem dX2_keep_95 : decode cX2_keep 95 = .ok (.iconst 1, 1) := dk_4 (dk_at dksX2_keep_4 0 rfl rfl)
theorem dX2_keep_96 : decode cX2_keep 96 = .ok (.iadd, 1) := dk_96 (dk_at dksX2_keep_4 1 rfl rfl)
theorem dX2_keep_97 : decode cX2_keep 97 = .ok (.iload_n 2, 1) := dk_28 (dk_at dksX2_keep_4 2 rfl rfl)
theorem dX2_keep_98 : decode cX2_keep 98 = .ok (.iadd, 1) := dk_96 (dk_at dksX2_keep_4 3 rfl rfl)
theorem dX2_keep_99 : decode cX2_keep 99 = .ok (.aload_n 0, 1) := dk_42 (dk_at dksX2_keep_4 4 rfl rfl)
theorem dX2_keep_100 : decode cX2_keep 100 = .ok (.getfield 7, 3) := dk_180 0 7 (dk_at dksX2_keep_4 5 rfl rfl)
theorem dX2_keep_103 : decode cX2_keep 103 = .ok (.bipush 6, 2) := dk_16 6 (dk_at dksX2_keep_4 8 rfl rfl)
theorem dX2_keep_105 : decode cX2_keep 105 = .ok (.iload_n 2, 1) := dk_28 (dk_at dksX2_keep_4 10 rfl rfl)
theorem dX2_keep_106 : decode cX2_keep 106 = .ok (.iadd, 1) := dk_96 (dk_at dksX2_keep_4 11 rfl rfl)
theorem dX2_keep_107 : decode cX2_keep 107 = .ok (.iaload, 1) := dk_46 (dk_at dksX2_keep_4 12 rfl rfl)
theorem dX2_keep_108 : decode cX2_keep 108 = .ok (.iastore, 1) := dk_79 (dk_at dksX2_keep_4 13 rfl rfl)
theorem dX2_keep_109 : decode cX2_keep 109 = .ok (.iinc 2 1, 3) := dk_132 2 1 (dk_at dksX2_keep_4 14 rfl rfl)
theorem dX2_keep_112 : decode cX2_keep 112 = .ok (.goto (-28), 3) := dk_167 255 228 (dk_at dksX2_keep_4 17 rfl rfl)
theorem dX2_keep_115 : decode cX2_keep 115 = .ok (.iconst 0, 1) := dk_3 (dk_at dksX2_keep_4 20 rfl rfl)
theorem dX2_keep_116 : decode cX2_keep 116 = .ok (.istore_n 2, 1) := dk_61 (dk_at dksX2_keep_4 21 rfl rfl)
theorem dX2_keep_117 : decode cX2_keep 117 = .ok (.iload_n 2, 1) := dk_28 (dk_at dksX2_keep_4 22 rfl rfl)
theorem dX2_keep_118 : decode cX2_keep 118 = .ok (.bipush 30, 2) := dk_16 30 (dk_at dksX2_keep_5 0 rfl rfl)
theorem dX2_keep_120 : decode cX2_keep 120 = .ok (.if_icmp .ge 32, 3) := dk_162 0 32 (dk_at dksX2_keep_5 2 rfl rfl)
theorem dX2_keep_123 : decode cX2_keep 123 = .ok (.aload_n 0, 1) := dk_42 (dk_at dksX2_keep_5 5 rfl rfl)
theorem dX2_keep_124 : decode cX2_keep 124 = .ok (.getfield 7, 3) := dk_180 0 7 (dk_at dksX2_keep_5 6 rfl rfl)
theorem dX2_keep_127 : decode cX2_keep 127 = .ok (.iload_n 1, 1) := dk_27 (dk_at dksX2_keep_5 9 rfl rfl)
theorem dX2_keep_128 : decode cX2_keep 128 = .ok (.iconst 1, 1) := dk_4 (dk_at dksX2_keep_5 10 rfl rfl)
theorem dX2_keep_129 : decode cX2_keep 129 = .ok (.iadd, 1) := dk_96 (dk_at dksX2_keep_5 11 rfl rfl)
theorem dX2_keep_130 : decode cX2_keep 130 = .ok (.bipush 70, 2) := dk_16 70 (dk_at dksX2_keep_5 12 rfl rfl)
theorem dX2_keep_132 : decode cX2_keep 132 = .ok (.iadd, 1) := dk_96 (dk_at dksX2_keep_5 14 rfl rfl)
theorem dX2_keep_133 : decode cX2_keep 133 = .ok (.iload_n 2, 1) := dk_28 (dk_at dksX2_keep_5 15 rfl rfl)
theorem dX2_keep_134 : decode cX2_keep 134 = .ok (.iadd, 1) := dk_96 (dk_at dksX2_keep_5 16 rfl rfl)
theorem dX2_keep_135 : decode cX2_keep 135 = .ok (.aload_n 0, 1) := dk_42 (dk_at dksX2_keep_5 17 rfl rfl)
theorem dX2_keep_136 : decode cX2_keep 136 = .ok (.getfield 7, 3) := dk_180 0 7 (dk_at dksX2_keep_5 18 rfl rfl)
theorem dX2_keep_139 : decode cX2_keep 139 = .ok (.sipush 3175, 3) := dk_17 12 103 (dk_at dksX2_keep_5 21 rfl rfl)
theorem dX2_keep_142 : decode cX2_keep 142 = .ok (.iload_n 2, 1) := dk_28 (dk_at dksX2_keep_6 0 rfl rfl)
theorem dX2_keep_143 : decode cX2_keep 143 = .ok (.iadd, 1) := dk_96 (dk_at dksX2_keep_6 1 rfl rfl)
theorem dX2_keep_144 : decode cX2_keep 144 = .ok (.iaload, 1) := dk_46 (dk_at dksX2_keep_6 2 rfl rfl)
theorem dX2_keep_145 : decode cX2_keep 145 = .ok (.iastore, 1) := dk_79 (dk_at dksX2_keep_6 3 rfl rfl)
theorem dX2_keep_146 : decode cX2_keep 146 = .ok (.iinc 2 1, 3) := dk_132 2 1 (dk_at dksX2_keep_6 4 rfl rfl)
theorem dX2_keep_149 : decode cX2_keep 149 = .ok (.goto (-32), 3) := dk_167 255 224 (dk_at dksX2_keep_6 7 rfl rfl)
theorem dX2_keep_152 : decode cX2_keep 152 = .ok (.aload_n 0, 1) := dk_42 (dk_at dksX2_keep_6 10 rfl rfl)
theorem dX2_keep_153 : decode cX2_keep 153 = .ok (.getfield 7, 3) := dk_180 0 7 (dk_at dksX2_keep_6 11 rfl rfl)
theorem dX2_keep_156 : decode cX2_keep 156 = .ok (.iconst 3, 1) := dk_6 (dk_at dksX2_keep_6 14 rfl rfl)
theorem dX2_keep_157 : decode cX2_keep 157 = .ok (.dup2, 1) := dk_92 (dk_at dksX2_keep_6 15 rfl rfl)
theorem dX2_keep_158 : decode cX2_keep 158 = .ok (.iaload, 1) := dk_46 (dk_at dksX2_keep_6 16 rfl rfl)
theorem dX2_keep_159 : decode cX2_keep 159 = .ok (.iconst 1, 1) := dk_4 (dk_at dksX2_keep_6 17 rfl rfl)
theorem dX2_keep_160 : decode cX2_keep 160 = .ok (.iadd, 1) := dk_96 (dk_at dksX2_keep_6 18 rfl rfl)
theorem dX2_keep_161 : decode cX2_keep 161 = .ok (.iastore, 1) := dk_79 (dk_at dksX2_keep_6 19 rfl rfl)
theorem dX2_keep_162 : decode cX2_keep 162 = .ok (.return_, 1) := dk_177 (dk_at dksX2_keep_6 20 rfl rfl)
abbrev cX2_runNow : ByteArray := prog_20_method_69_code
def yX2_runNow : MethodName := ⟨RX2, "runNow", "(II)V"⟩
def dkwX2_runNow_5 : List UInt8 := [4, 96, 181, 1, 54, 42, 27, 28, 182, 1, 57, 177]
abbrev dktX2_runNow_5 : List UInt8 := dkwX2_runNow_5 ++ []
def dkwX2_runNow_4 : List UInt8 := [3, 54, 4, 132, 5, 1, 167, 255, 162, 42, 180, 0, 7, 16, 69, 27, 96, 29, 79, 42, 89, 180, 1, 54]
abbrev dktX2_runNow_4 : List UInt8 := dkwX2_runNow_4 ++ dktX2_runNow_5
def dkwX2_runNow_3 : List UInt8 := [27, 21, 6, 29, 182, 1, 47, 54, 7, 42, 16, 10, 182, 1, 51, 21, 7, 161, 0, 7, 4, 167, 0, 4]
abbrev dktX2_runNow_3 : List UInt8 := dkwX2_runNow_3 ++ dktX2_runNow_4
def dkwX2_runNow_2 : List UInt8 := [54, 4, 42, 21, 6, 182, 1, 44, 154, 0, 6, 167, 0, 40, 132, 3, 1, 42, 42, 180, 0, 7, 5, 46]
abbrev dktX2_runNow_2 : List UInt8 := dkwX2_runNow_2 ++ dktX2_runNow_3
def dkwX2_runNow_1 : List UInt8 := [16, 30, 112, 54, 6, 42, 180, 0, 7, 16, 9, 21, 6, 96, 46, 6, 159, 0, 7, 4, 167, 0, 4, 3]
abbrev dktX2_runNow_1 : List UInt8 := dkwX2_runNow_1 ++ dktX2_runNow_2
def dkwX2_runNow_0 : List UInt8 := [3, 62, 4, 54, 4, 3, 54, 5, 21, 5, 16, 60, 162, 0, 93, 21, 4, 153, 0, 88, 28, 21, 5, 96]
abbrev dktX2_runNow_0 : List UInt8 := dkwX2_runNow_0 ++ dktX2_runNow_1
theorem dksX2_runNow_0 : cX2_runNow.data.toList.drop 0 = dktX2_runNow_0 := by decide +kernel
theorem dksX2_runNow_1 : cX2_runNow.data.toList.drop 24 = dktX2_runNow_1 := dk_seg dksX2_runNow_0 24 rfl rfl
theorem dksX2_runNow_2 : cX2_runNow.data.toList.drop 48 = dktX2_runNow_2 := dk_seg dksX2_runNow_1 24 rfl rfl
theorem dksX2_runNow_3 : cX2_runNow.data.toList.drop 72 = dktX2_runNow_3 := dk_seg dksX2_runNow_2 24 rfl rfl
theorem dksX2_runNow_4 : cX2_runNow.data.toList.drop 96 = dktX2_runNow_4 := dk_seg dksX2_runNow_3 24 rfl rfl
theorem dksX2_runNow_5 : cX2_runNow.data.toList.drop 120 = dktX2_runNow_5 := dk_seg dksX2_runNow_4 24 rfl rfl
theorem dX2_runNow_0 : decode cX2_runNow 0 = .ok (.iconst 0, 1) := dk_3 (dk_at dksX2_runNow_0 0 rfl rfl)
theorem dX2_runNow_1 : decode cX2_runNow 1 = .ok (.istore_n 3, 1) := dk_62 (dk_at dksX2_runNow_0 1 rfl rfl)
theorem dX2_runNow_2 : decode cX2_runNow 2 = .ok (.iconst 1, 1) := dk_4 (dk_at dksX2_runNow_0 2 rfl rfl)
theorem dX2_runNow_3 : decode cX2_runNow 3 = .ok (.istore 4, 2) := dk_54 4 (dk_at dksX2_runNow_0 3 rfl rfl)
theorem dX2_runNow_5 : decode cX2_runNow 5 = .ok (.iconst 0, 1) := dk_3 (dk_at dksX2_runNow_0 5 rfl rfl)
theorem dX2_runNow_6 : decode cX2_runNow 6 = .ok (.istore 5, 2) := dk_54 5 (dk_at dksX2_runNow_0 6 rfl rfl)
theorem dX2_runNow_8 : decode cX2_runNow 8 = .ok (.iload 5, 2) := dk_21 5 (dk_at dksX2_runNow_0 8 rfl rfl)
theorem dX2_runNow_10 : decode cX2_runNow 10 = .ok (.bipush 60, 2) := dk_16 60 (dk_at dksX2_runNow_0 10 rfl rfl)
theorem dX2_runNow_12 : decode cX2_runNow 12 = .ok (.if_icmp .ge 93, 3) := dk_162 0 93 (dk_at dksX2_runNow_0 12 rfl rfl)
theorem dX2_runNow_15 : decode cX2_runNow 15 = .ok (.iload 4, 2) := dk_21 4 (dk_at dksX2_runNow_0 15 rfl rfl)
theorem dX2_runNow_17 : decode cX2_runNow 17 = .ok (.ifCond .eq 88, 3) := dk_153 0 88 (dk_at dksX2_runNow_0 17 rfl rfl)
theorem dX2_runNow_20 : decode cX2_runNow 20 = .ok (.iload_n 2, 1) := dk_28 (dk_at dksX2_runNow_0 20 rfl rfl)
theorem dX2_runNow_21 : decode cX2_runNow 21 = .ok (.iload 5, 2) := dk_21 5 (dk_at dksX2_runNow_0 21 rfl rfl)
theorem dX2_runNow_23 : decode cX2_runNow 23 = .ok (.iadd, 1) := dk_96 (dk_at dksX2_runNow_0 23 rfl rfl)
theorem dX2_runNow_24 : decode cX2_runNow 24 = .ok (.bipush 30, 2) := dk_16 30 (dk_at dksX2_runNow_1 0 rfl rfl)
theorem dX2_runNow_26 : decode cX2_runNow 26 = .ok (.irem, 1) := dk_112 (dk_at dksX2_runNow_1 2 rfl rfl)
theorem dX2_runNow_27 : decode cX2_runNow 27 = .ok (.istore 6, 2) := dk_54 6 (dk_at dksX2_runNow_1 3 rfl rfl)
theorem dX2_runNow_29 : decode cX2_runNow 29 = .ok (.aload_n 0, 1) := dk_42 (dk_at dksX2_runNow_1 5 rfl rfl)
theorem dX2_runNow_30 : decode cX2_runNow 30 = .ok (.getfield 7, 3) := dk_180 0 7 (dk_at dksX2_runNow_1 6 rfl rfl)
theorem dX2_runNow_33 : decode cX2_runNow 33 = .ok (.bipush 9, 2) := dk_16 9 (dk_at dksX2_runNow_1 9 rfl rfl)
theorem dX2_runNow_35 : decode cX2_runNow 35 = .ok (.iload 6, 2) := dk_21 6 (dk_at dksX2_runNow_1 11 rfl rfl)
theorem dX2_runNow_37 : decode cX2_runNow 37 = .ok (.iadd, 1) := dk_96 (dk_at dksX2_runNow_1 13 rfl rfl)
theorem dX2_runNow_38 : decode cX2_runNow 38 = .ok (.iaload, 1) := dk_46 (dk_at dksX2_runNow_1 14 rfl rfl)
theorem dX2_runNow_39 : decode cX2_runNow 39 = .ok (.iconst 3, 1) := dk_6 (dk_at dksX2_runNow_1 15 rfl rfl)
theorem dX2_runNow_40 : decode cX2_runNow 40 = .ok (.if_icmp .eq 7, 3) := dk_159 0 7 (dk_at dksX2_runNow_1 16 rfl rfl)
theorem dX2_runNow_43 : decode cX2_runNow 43 = .ok (.iconst 1, 1) := dk_4 (dk_at dksX2_runNow_1 19 rfl rfl)
theorem dX2_runNow_44 : decode cX2_runNow 44 = .ok (.goto 4, 3) := dk_167 0 4 (dk_at dksX2_runNow_1 20 rfl rfl)
theorem dX2_runNow_47 : decode cX2_runNow 47 = .ok (.iconst 0, 1) := dk_3 (dk_at dksX2_runNow_1 23 rfl rfl)
theorem dX2_runNow_48 : decode cX2_runNow 48 = .ok (.istore 4, 2) := dk_54 4 (dk_at dksX2_runNow_2 0 rfl rfl)
theorem dX2_runNow_50 : decode cX2_runNow 50 = .ok (.aload_n 0, 1) := dk_42 (dk_at dksX2_runNow_2 2 rfl rfl)
theorem dX2_runNow_51 : decode cX2_runNow 51 = .ok (.iload 6, 2) := dk_21 6 (dk_at dksX2_runNow_2 3 rfl rfl)
theorem dX2_runNow_53 : decode cX2_runNow 53 = .ok (.invokevirtual 300, 3) := dk_182 1 44 (dk_at dksX2_runNow_2 5 rfl rfl)
theorem dX2_runNow_56 : decode cX2_runNow 56 = .ok (.ifCond .ne 6, 3) := dk_154 0 6 (dk_at dksX2_runNow_2 8 rfl rfl)
theorem dX2_runNow_59 : decode cX2_runNow 59 = .ok (.goto 40, 3) := dk_167 0 40 (dk_at dksX2_runNow_2 11 rfl rfl)
theorem dX2_runNow_62 : decode cX2_runNow 62 = .ok (.iinc 3 1, 3) := dk_132 3 1 (dk_at dksX2_runNow_2 14 rfl rfl)
theorem dX2_runNow_65 : decode cX2_runNow 65 = .ok (.aload_n 0, 1) := dk_42 (dk_at dksX2_runNow_2 17 rfl rfl)
theorem dX2_runNow_66 : decode cX2_runNow 66 = .ok (.aload_n 0, 1) := dk_42 (dk_at dksX2_runNow_2 18 rfl rfl)
theorem dX2_runNow_67 : decode cX2_runNow 67 = .ok (.getfield 7, 3) := dk_180 0 7 (dk_at dksX2_runNow_2 19 rfl rfl)
theorem dX2_runNow_70 : decode cX2_runNow 70 = .ok (.iconst 2, 1) := dk_5 (dk_at dksX2_runNow_2 22 rfl rfl)
theorem dX2_runNow_71 : decode cX2_runNow 71 = .ok (.iaload, 1) := dk_46 (dk_at dksX2_runNow_2 23 rfl rfl)
theorem dX2_runNow_72 : decode cX2_runNow 72 = .ok (.iload_n 1, 1) := dk_27 (dk_at dksX2_runNow_3 0 rfl rfl)
theorem dX2_runNow_73 : decode cX2_runNow 73 = .ok (.iload 6, 2) := dk_21 6 (dk_at dksX2_runNow_3 1 rfl rfl)
theorem dX2_runNow_75 : decode cX2_runNow 75 = .ok (.iload_n 3, 1) := dk_29 (dk_at dksX2_runNow_3 3 rfl rfl)
theorem dX2_runNow_76 : decode cX2_runNow 76 = .ok (.invokevirtual 303, 3) := dk_182 1 47 (dk_at dksX2_runNow_3 4 rfl rfl)
theorem dX2_runNow_79 : decode cX2_runNow 79 = .ok (.istore 7, 2) := dk_54 7 (dk_at dksX2_runNow_3 7 rfl rfl)
theorem dX2_runNow_81 : decode cX2_runNow 81 = .ok (.aload_n 0, 1) := dk_42 (dk_at dksX2_runNow_3 9 rfl rfl)
theorem dX2_runNow_82 : decode cX2_runNow 82 = .ok (.bipush 10, 2) := dk_16 10 (dk_at dksX2_runNow_3 10 rfl rfl)
theorem dX2_runNow_84 : decode cX2_runNow 84 = .ok (.invokevirtual 307, 3) := dk_182 1 51 (dk_at dksX2_runNow_3 12 rfl rfl)
theorem dX2_runNow_87 : decode cX2_runNow 87 = .ok (.iload 7, 2) := dk_21 7 (dk_at dksX2_runNow_3 15 rfl rfl)
theorem dX2_runNow_89 : decode cX2_runNow 89 = .ok (.if_icmp .lt 7, 3) := dk_161 0 7 (dk_at dksX2_runNow_3 17 rfl rfl)
theorem dX2_runNow_92 : decode cX2_runNow 92 = .ok (.iconst 1, 1) := dk_4 (dk_at dksX2_runNow_3 20 rfl rfl)
theorem dX2_runNow_93 : decode cX2_runNow 93 = .ok (.goto 4, 3) := dk_167 0 4 (dk_at dksX2_runNow_3 21 rfl rfl)
theorem dX2_runNow_96 : decode cX2_runNow 96 = .ok (.iconst 0, 1) := dk_3 (dk_at dksX2_runNow_4 0 rfl rfl)
theorem dX2_runNow_97 : decode cX2_runNow 97 = .ok (.istore 4, 2) := dk_54 4 (dk_at dksX2_runNow_4 1 rfl rfl)
theorem dX2_runNow_99 : decode cX2_runNow 99 = .ok (.iinc 5 1, 3) := dk_132 5 1 (dk_at dksX2_runNow_4 3 rfl rfl)
theorem dX2_runNow_102 : decode cX2_runNow 102 = .ok (.goto (-94), 3) := dk_167 255 162 (dk_at dksX2_runNow_4 6 rfl rfl)
theorem dX2_runNow_105 : decode cX2_runNow 105 = .ok (.aload_n 0, 1) := dk_42 (dk_at dksX2_runNow_4 9 rfl rfl)
theorem dX2_runNow_106 : decode cX2_runNow 106 = .ok (.getfield 7, 3) := dk_180 0 7 (dk_at dksX2_runNow_4 10 rfl rfl)
theorem dX2_runNow_109 : decode cX2_runNow 109 = .ok (.bipush 69, 2) := dk_16 69 (dk_at dksX2_runNow_4 13 rfl rfl)
theorem dX2_runNow_111 : decode cX2_runNow 111 = .ok (.iload_n 1, 1) := dk_27 (dk_at dksX2_runNow_4 15 rfl rfl)
theorem dX2_runNow_112 : decode cX2_runNow 112 = .ok (.iadd, 1) := dk_96 (dk_at dksX2_runNow_4 16 rfl rfl)
theorem dX2_runNow_113 : decode cX2_runNow 113 = .ok (.iload_n 3, 1) := dk_29 (dk_at dksX2_runNow_4 17 rfl rfl)
theorem dX2_runNow_114 : decode cX2_runNow 114 = .ok (.iastore, 1) := dk_79 (dk_at dksX2_runNow_4 18 rfl rfl)
theorem dX2_runNow_115 : decode cX2_runNow 115 = .ok (.aload_n 0, 1) := dk_42 (dk_at dksX2_runNow_4 19 rfl rfl)
theorem dX2_runNow_116 : decode cX2_runNow 116 = .ok (.dup, 1) := dk_89 (dk_at dksX2_runNow_4 20 rfl rfl)
theorem dX2_runNow_117 : decode cX2_runNow 117 = .ok (.getfield 310, 3) := dk_180 1 54 (dk_at dksX2_runNow_4 21 rfl rfl)
theorem dX2_runNow_120 : decode cX2_runNow 120 = .ok (.iconst 1, 1) := dk_4 (dk_at dksX2_runNow_5 0 rfl rfl)
theorem dX2_runNow_121 : decode cX2_runNow 121 = .ok (.iadd, 1) := dk_96 (dk_at dksX2_runNow_5 1 rfl rfl)
theorem dX2_runNow_122 : decode cX2_runNow 122 = .ok (.putfield 310, 3) := dk_181 1 54 (dk_at dksX2_runNow_5 2 rfl rfl)
theorem dX2_runNow_125 : decode cX2_runNow 125 = .ok (.aload_n 0, 1) := dk_42 (dk_at dksX2_runNow_5 5 rfl rfl)
theorem dX2_runNow_126 : decode cX2_runNow 126 = .ok (.iload_n 1, 1) := dk_27 (dk_at dksX2_runNow_5 6 rfl rfl)
theorem dX2_runNow_127 : decode cX2_runNow 127 = .ok (.iload_n 2, 1) := dk_28 (dk_at dksX2_runNow_5 7 rfl rfl)
theorem dX2_runNow_128 : decode cX2_runNow 128 = .ok (.invokevirtual 313, 3) := dk_182 1 57 (dk_at dksX2_runNow_5 8 rfl rfl)
theorem dX2_runNow_131 : decode cX2_runNow 131 = .ok (.return_, 1) := dk_177 (dk_at dksX2_runNow_5 11 rfl rfl)
abbrev cX2_isBar : ByteArray := prog_20_method_9_code
def yX2_isBar : MethodName := ⟨RX2, "isBar", "(I)Z"⟩
def dkwX2_isBar_0 : List UInt8 := [42, 180, 0, 7, 16, 9, 27, 96, 46, 4, 160, 0, 7, 4, 167, 0, 4, 3, 172]
abbrev dktX2_isBar_0 : List UInt8 := dkwX2_isBar_0 ++ []
theorem dksX2_isBar_0 : cX2_isBar.data.toList.drop 0 = dktX2_isBar_0 := by decide +kernel
theorem dX2_isBar_0 : decode cX2_isBar 0 = .ok (.aload_n 0, 1) := dk_42 (dk_at dksX2_isBar_0 0 rfl rfl)
theorem dX2_isBar_1 : decode cX2_isBar 1 = .ok (.getfield 7, 3) := dk_180 0 7 (dk_at dksX2_isBar_0 1 rfl rfl)
theorem dX2_isBar_4 : decode cX2_isBar 4 = .ok (.bipush 9, 2) := dk_16 9 (dk_at dksX2_isBar_0 4 rfl rfl)
theorem dX2_isBar_6 : decode cX2_isBar 6 = .ok (.iload_n 1, 1) := dk_27 (dk_at dksX2_isBar_0 6 rfl rfl)
theorem dX2_isBar_7 : decode cX2_isBar 7 = .ok (.iadd, 1) := dk_96 (dk_at dksX2_isBar_0 7 rfl rfl)
theorem dX2_isBar_8 : decode cX2_isBar 8 = .ok (.iaload, 1) := dk_46 (dk_at dksX2_isBar_0 8 rfl rfl)
theorem dX2_isBar_9 : decode cX2_isBar 9 = .ok (.iconst 1, 1) := dk_4 (dk_at dksX2_isBar_0 9 rfl rfl)
theorem dX2_isBar_10 : decode cX2_isBar 10 = .ok (.if_icmp .ne 7, 3) := dk_160 0 7 (dk_at dksX2_isBar_0 10 rfl rfl)
theorem dX2_isBar_13 : decode cX2_isBar 13 = .ok (.iconst 1, 1) := dk_4 (dk_at dksX2_isBar_0 13 rfl rfl)
theorem dX2_isBar_14 : decode cX2_isBar 14 = .ok (.goto 4, 3) := dk_167 0 4 (dk_at dksX2_isBar_0 14 rfl rfl)
theorem dX2_isBar_17 : decode cX2_isBar 17 = .ok (.iconst 0, 1) := dk_3 (dk_at dksX2_isBar_0 17 rfl rfl)
theorem dX2_isBar_18 : decode cX2_isBar 18 = .ok (.ireturn, 1) := dk_172 (dk_at dksX2_isBar_0 18 rfl rfl)
abbrev cX2_catchesOf : ByteArray := prog_20_method_64_code
def yX2_catchesOf : MethodName := ⟨RX2, "catchesOf", "(IIII)I"⟩
def dkwX2_catchesOf_2 : List UInt8 := [16, 7, 28, 79, 42, 27, 3, 16, 10, 182, 1, 32, 172]
abbrev dktX2_catchesOf_2 : List UInt8 := dkwX2_catchesOf_2 ++ []
def dkwX2_catchesOf_1 : List UInt8 := [28, 96, 46, 79, 42, 180, 0, 32, 16, 6, 42, 180, 0, 7, 16, 83, 28, 96, 46, 79, 42, 180, 0, 32]
abbrev dktX2_catchesOf_1 : List UInt8 := dkwX2_catchesOf_1 ++ dktX2_catchesOf_2
def dkwX2_catchesOf_0 : List UInt8 := [42, 29, 182, 1, 29, 42, 180, 0, 32, 7, 21, 4, 79, 42, 180, 0, 32, 8, 42, 180, 0, 7, 16, 76]
abbrev dktX2_catchesOf_0 : List UInt8 := dkwX2_catchesOf_0 ++ dktX2_catchesOf_1
theorem dksX2_catchesOf_0 : cX2_catchesOf.data.toList.drop 0 = dktX2_catchesOf_0 := by decide +kernel
theorem dksX2_catchesOf_1 : cX2_catchesOf.data.toList.drop 24 = dktX2_catchesOf_1 := dk_seg dksX2_catchesOf_0 24 rfl rfl
theorem dksX2_catchesOf_2 : cX2_catchesOf.data.toList.drop 48 = dktX2_catchesOf_2 := dk_seg dksX2_catchesOf_1 24 rfl rfl
theorem dX2_catchesOf_0 : decode cX2_catchesOf 0 = .ok (.aload_n 0, 1) := dk_42 (dk_at dksX2_catchesOf_0 0 rfl rfl)
theorem dX2_catchesOf_1 : decode cX2_catchesOf 1 = .ok (.iload_n 3, 1) := dk_29 (dk_at dksX2_catchesOf_0 1 rfl rfl)
theorem dX2_catchesOf_2 : decode cX2_catchesOf 2 = .ok (.invokevirtual 285, 3) := dk_182 1 29 (dk_at dksX2_catchesOf_0 2 rfl rfl)
theorem dX2_catchesOf_5 : decode cX2_catchesOf 5 = .ok (.aload_n 0, 1) := dk_42 (dk_at dksX2_catchesOf_0 5 rfl rfl)
theorem dX2_catchesOf_6 : decode cX2_catchesOf 6 = .ok (.getfield 32, 3) := dk_180 0 32 (dk_at dksX2_catchesOf_0 6 rfl rfl)
theorem dX2_catchesOf_9 : decode cX2_catchesOf 9 = .ok (.iconst 4, 1) := dk_7 (dk_at dksX2_catchesOf_0 9 rfl rfl)
theorem dX2_catchesOf_10 : decode cX2_catchesOf 10 = .ok (.iload 4, 2) := dk_21 4 (dk_at dksX2_catchesOf_0 10 rfl rfl)
theorem dX2_catchesOf_12 : decode cX2_catchesOf 12 = .ok (.iastore, 1) := dk_79 (dk_at dksX2_catchesOf_0 12 rfl rfl)
theorem dX2_catchesOf_13 : decode cX2_catchesOf 13 = .ok (.aload_n 0, 1) := dk_42 (dk_at dksX2_catchesOf_0 13 rfl rfl)
theorem dX2_catchesOf_14 : decode cX2_catchesOf 14 = .ok (.getfield 32, 3) := dk_180 0 32 (dk_at dksX2_catchesOf_0 14 rfl rfl)
theorem dX2_catchesOf_17 : decode cX2_catchesOf 17 = .ok (.iconst 5, 1) := dk_8 (dk_at dksX2_catchesOf_0 17 rfl rfl)
theorem dX2_catchesOf_18 : decode cX2_catchesOf 18 = .ok (.aload_n 0, 1) := dk_42 (dk_at dksX2_catchesOf_0 18 rfl rfl)
theorem dX2_catchesOf_19 : decode cX2_catchesOf 19 = .ok (.getfield 7, 3) := dk_180 0 7 (dk_at dksX2_catchesOf_0 19 rfl rfl)
theorem dX2_catchesOf_22 : decode cX2_catchesOf 22 = .ok (.bipush 76, 2) := dk_16 76 (dk_at dksX2_catchesOf_0 22 rfl rfl)
theorem dX2_catchesOf_24 : decode cX2_catchesOf 24 = .ok (.iload_n 2, 1) := dk_28 (dk_at dksX2_catchesOf_1 0 rfl rfl)
theorem dX2_catchesOf_25 : decode cX2_catchesOf 25 = .ok (.iadd, 1) := dk_96 (dk_at dksX2_catchesOf_1 1 rfl rfl)
theorem dX2_catchesOf_26 : decode cX2_catchesOf 26 = .ok (.iaload, 1) := dk_46 (dk_at dksX2_catchesOf_1 2 rfl rfl)
theorem dX2_catchesOf_27 : decode cX2_catchesOf 27 = .ok (.iastore, 1) := dk_79 (dk_at dksX2_catchesOf_1 3 rfl rfl)
theorem dX2_catchesOf_28 : decode cX2_catchesOf 28 = .ok (.aload_n 0, 1) := dk_42 (dk_at dksX2_catchesOf_1 4 rfl rfl)
theorem dX2_catchesOf_29 : decode cX2_catchesOf 29 = .ok (.getfield 32, 3) := dk_180 0 32 (dk_at dksX2_catchesOf_1 5 rfl rfl)
theorem dX2_catchesOf_32 : decode cX2_catchesOf 32 = .ok (.bipush 6, 2) := dk_16 6 (dk_at dksX2_catchesOf_1 8 rfl rfl)
theorem dX2_catchesOf_34 : decode cX2_catchesOf 34 = .ok (.aload_n 0, 1) := dk_42 (dk_at dksX2_catchesOf_1 10 rfl rfl)
theorem dX2_catchesOf_35 : decode cX2_catchesOf 35 = .ok (.getfield 7, 3) := dk_180 0 7 (dk_at dksX2_catchesOf_1 11 rfl rfl)
theorem dX2_catchesOf_38 : decode cX2_catchesOf 38 = .ok (.bipush 83, 2) := dk_16 83 (dk_at dksX2_catchesOf_1 14 rfl rfl)
theorem dX2_catchesOf_40 : decode cX2_catchesOf 40 = .ok (.iload_n 2, 1) := dk_28 (dk_at dksX2_catchesOf_1 16 rfl rfl)
theorem dX2_catchesOf_41 : decode cX2_catchesOf 41 = .ok (.iadd, 1) := dk_96 (dk_at dksX2_catchesOf_1 17 rfl rfl)
theorem dX2_catchesOf_42 : decode cX2_catchesOf 42 = .ok (.iaload, 1) := dk_46 (dk_at dksX2_catchesOf_1 18 rfl rfl)
theorem dX2_catchesOf_43 : decode cX2_catchesOf 43 = .ok (.iastore, 1) := dk_79 (dk_at dksX2_catchesOf_1 19 rfl rfl)
theorem dX2_catchesOf_44 : decode cX2_catchesOf 44 = .ok (.aload_n 0, 1) := dk_42 (dk_at dksX2_catchesOf_1 20 rfl rfl)
theorem dX2_catchesOf_45 : decode cX2_catchesOf 45 = .ok (.getfield 32, 3) := dk_180 0 32 (dk_at dksX2_catchesOf_1 21 rfl rfl)
theorem dX2_catchesOf_48 : decode cX2_catchesOf 48 = .ok (.bipush 7, 2) := dk_16 7 (dk_at dksX2_catchesOf_2 0 rfl rfl)
theorem dX2_catchesOf_50 : decode cX2_catchesOf 50 = .ok (.iload_n 2, 1) := dk_28 (dk_at dksX2_catchesOf_2 2 rfl rfl)
theorem dX2_catchesOf_51 : decode cX2_catchesOf 51 = .ok (.iastore, 1) := dk_79 (dk_at dksX2_catchesOf_2 3 rfl rfl)
theorem dX2_catchesOf_52 : decode cX2_catchesOf 52 = .ok (.aload_n 0, 1) := dk_42 (dk_at dksX2_catchesOf_2 4 rfl rfl)
theorem dX2_catchesOf_53 : decode cX2_catchesOf 53 = .ok (.iload_n 1, 1) := dk_27 (dk_at dksX2_catchesOf_2 5 rfl rfl)
theorem dX2_catchesOf_54 : decode cX2_catchesOf 54 = .ok (.iconst 0, 1) := dk_3 (dk_at dksX2_catchesOf_2 6 rfl rfl)
theorem dX2_catchesOf_55 : decode cX2_catchesOf 55 = .ok (.bipush 10, 2) := dk_16 10 (dk_at dksX2_catchesOf_2 7 rfl rfl)
theorem dX2_catchesOf_57 : decode cX2_catchesOf 57 = .ok (.invokevirtual 288, 3) := dk_182 1 32 (dk_at dksX2_catchesOf_2 9 rfl rfl)
theorem dX2_catchesOf_60 : decode cX2_catchesOf 60 = .ok (.ireturn, 1) := dk_172 (dk_at dksX2_catchesOf_2 12 rfl rfl)
abbrev cX2_name : ByteArray := prog_20_method_63_code
def yX2_name : MethodName := ⟨RX2, "name", "(I)V"⟩
def dkwX2_name_2 : List UInt8 := [46, 79, 177]
abbrev dktX2_name_2 : List UInt8 := dkwX2_name_2 ++ []
def dkwX2_name_1 : List UInt8 := [5, 42, 180, 0, 7, 16, 9, 27, 96, 46, 79, 42, 180, 0, 32, 6, 42, 180, 0, 7, 16, 39, 27, 96]
abbrev dktX2_name_1 : List UInt8 := dkwX2_name_1 ++ dktX2_name_2
def dkwX2_name_0 : List UInt8 := [42, 180, 0, 32, 3, 42, 180, 0, 7, 16, 6, 46, 79, 42, 180, 0, 32, 4, 27, 79, 42, 180, 0, 32]
abbrev dktX2_name_0 : List UInt8 := dkwX2_name_0 ++ dktX2_name_1
theorem dksX2_name_0 : cX2_name.data.toList.drop 0 = dktX2_name_0 := by decide +kernel
theorem dksX2_name_1 : cX2_name.data.toList.drop 24 = dktX2_name_1 := dk_seg dksX2_name_0 24 rfl rfl
theorem dksX2_name_2 : cX2_name.data.toList.drop 48 = dktX2_name_2 := dk_seg dksX2_name_1 24 rfl rfl
theorem dX2_name_0 : decode cX2_name 0 = .ok (.aload_n 0, 1) := dk_42 (dk_at dksX2_name_0 0 rfl rfl)
theorem dX2_name_1 : decode cX2_name 1 = .ok (.getfield 32, 3) := dk_180 0 32 (dk_at dksX2_name_0 1 rfl rfl)
theorem dX2_name_4 : decode cX2_name 4 = .ok (.iconst 0, 1) := dk_3 (dk_at dksX2_name_0 4 rfl rfl)
theorem dX2_name_5 : decode cX2_name 5 = .ok (.aload_n 0, 1) := dk_42 (dk_at dksX2_name_0 5 rfl rfl)
theorem dX2_name_6 : decode cX2_name 6 = .ok (.getfield 7, 3) := dk_180 0 7 (dk_at dksX2_name_0 6 rfl rfl)
theorem dX2_name_9 : decode cX2_name 9 = .ok (.bipush 6, 2) := dk_16 6 (dk_at dksX2_name_0 9 rfl rfl)
theorem dX2_name_11 : decode cX2_name 11 = .ok (.iaload, 1) := dk_46 (dk_at dksX2_name_0 11 rfl rfl)
theorem dX2_name_12 : decode cX2_name 12 = .ok (.iastore, 1) := dk_79 (dk_at dksX2_name_0 12 rfl rfl)
theorem dX2_name_13 : decode cX2_name 13 = .ok (.aload_n 0, 1) := dk_42 (dk_at dksX2_name_0 13 rfl rfl)
theorem dX2_name_14 : decode cX2_name 14 = .ok (.getfield 32, 3) := dk_180 0 32 (dk_at dksX2_name_0 14 rfl rfl)
theorem dX2_name_17 : decode cX2_name 17 = .ok (.iconst 1, 1) := dk_4 (dk_at dksX2_name_0 17 rfl rfl)
theorem dX2_name_18 : decode cX2_name 18 = .ok (.iload_n 1, 1) := dk_27 (dk_at dksX2_name_0 18 rfl rfl)
theorem dX2_name_19 : decode cX2_name 19 = .ok (.iastore, 1) := dk_79 (dk_at dksX2_name_0 19 rfl rfl)
theorem dX2_name_20 : decode cX2_name 20 = .ok (.aload_n 0, 1) := dk_42 (dk_at dksX2_name_0 20 rfl rfl)
theorem dX2_name_21 : decode cX2_name 21 = .ok (.getfield 32, 3) := dk_180 0 32 (dk_at dksX2_name_0 21 rfl rfl)
theorem dX2_name_24 : decode cX2_name 24 = .ok (.iconst 2, 1) := dk_5 (dk_at dksX2_name_1 0 rfl rfl)
theorem dX2_name_25 : decode cX2_name 25 = .ok (.aload_n 0, 1) := dk_42 (dk_at dksX2_name_1 1 rfl rfl)
theorem dX2_name_26 : decode cX2_name 26 = .ok (.getfield 7, 3) := dk_180 0 7 (dk_at dksX2_name_1 2 rfl rfl)
theorem dX2_name_29 : decode cX2_name 29 = .ok (.bipush 9, 2) := dk_16 9 (dk_at dksX2_name_1 5 rfl rfl)
theorem dX2_name_31 : decode cX2_name 31 = .ok (.iload_n 1, 1) := dk_27 (dk_at dksX2_name_1 7 rfl rfl)
theorem dX2_name_32 : decode cX2_name 32 = .ok (.iadd, 1) := dk_96 (dk_at dksX2_name_1 8 rfl rfl)
theorem dX2_name_33 : decode cX2_name 33 = .ok (.iaload, 1) := dk_46 (dk_at dksX2_name_1 9 rfl rfl)
theorem dX2_name_34 : decode cX2_name 34 = .ok (.iastore, 1) := dk_79 (dk_at dksX2_name_1 10 rfl rfl)
theorem dX2_name_35 : decode cX2_name 35 = .ok (.aload_n 0, 1) := dk_42 (dk_at dksX2_name_1 11 rfl rfl)
theorem dX2_name_36 : decode cX2_name 36 = .ok (.getfield 32, 3) := dk_180 0 32 (dk_at dksX2_name_1 12 rfl rfl)
theorem dX2_name_39 : decode cX2_name 39 = .ok (.iconst 3, 1) := dk_6 (dk_at dksX2_name_1 15 rfl rfl)
theorem dX2_name_40 : decode cX2_name 40 = .ok (.aload_n 0, 1) := dk_42 (dk_at dksX2_name_1 16 rfl rfl)
theorem dX2_name_41 : decode cX2_name 41 = .ok (.getfield 7, 3) := dk_180 0 7 (dk_at dksX2_name_1 17 rfl rfl)
theorem dX2_name_44 : decode cX2_name 44 = .ok (.bipush 39, 2) := dk_16 39 (dk_at dksX2_name_1 20 rfl rfl)
theorem dX2_name_46 : decode cX2_name 46 = .ok (.iload_n 1, 1) := dk_27 (dk_at dksX2_name_1 22 rfl rfl)
theorem dX2_name_47 : decode cX2_name 47 = .ok (.iadd, 1) := dk_96 (dk_at dksX2_name_1 23 rfl rfl)
theorem dX2_name_48 : decode cX2_name 48 = .ok (.iaload, 1) := dk_46 (dk_at dksX2_name_2 0 rfl rfl)
theorem dX2_name_49 : decode cX2_name 49 = .ok (.iastore, 1) := dk_79 (dk_at dksX2_name_2 1 rfl rfl)
theorem dX2_name_50 : decode cX2_name 50 = .ok (.return_, 1) := dk_177 (dk_at dksX2_name_2 2 rfl rfl)
abbrev cX2_says : ByteArray := prog_20_method_62_code
def yX2_says : MethodName := ⟨RX2, "says", "(III)I"⟩
def dkwX2_says_2 : List UInt8 := [182, 1, 22, 3, 29, 184, 1, 25, 172, 132, 4, 1, 167, 255, 200, 4, 172]
abbrev dktX2_says_2 : List UInt8 := dkwX2_says_2 ++ []
def dkwX2_says_1 : List UInt8 := [180, 0, 16, 17, 2, 169, 27, 104, 4, 96, 6, 21, 4, 104, 96, 46, 28, 160, 0, 16, 42, 27, 21, 4]
abbrev dktX2_says_1 : List UInt8 := dkwX2_says_1 ++ dktX2_says_2
def dkwX2_says_0 : List UInt8 := [3, 54, 4, 27, 155, 0, 58, 21, 4, 42, 180, 0, 16, 17, 2, 169, 27, 104, 46, 162, 0, 43, 42]
abbrev dktX2_says_0 : List UInt8 := dkwX2_says_0 ++ dktX2_says_1
theorem dksX2_says_0 : cX2_says.data.toList.drop 0 = dktX2_says_0 := by decide +kernel
theorem dksX2_says_1 : cX2_says.data.toList.drop 23 = dktX2_says_1 := dk_seg dksX2_says_0 23 rfl rfl
theorem dksX2_says_2 : cX2_says.data.toList.drop 47 = dktX2_says_2 := dk_seg dksX2_says_1 24 rfl rfl
theorem dX2_says_0 : decode cX2_says 0 = .ok (.iconst 0, 1) := dk_3 (dk_at dksX2_says_0 0 rfl rfl)
theorem dX2_says_1 : decode cX2_says 1 = .ok (.istore 4, 2) := dk_54 4 (dk_at dksX2_says_0 1 rfl rfl)
theorem dX2_says_3 : decode cX2_says 3 = .ok (.iload_n 1, 1) := dk_27 (dk_at dksX2_says_0 3 rfl rfl)
theorem dX2_says_4 : decode cX2_says 4 = .ok (.ifCond .lt 58, 3) := dk_155 0 58 (dk_at dksX2_says_0 4 rfl rfl)
theorem dX2_says_7 : decode cX2_says 7 = .ok (.iload 4, 2) := dk_21 4 (dk_at dksX2_says_0 7 rfl rfl)
theorem dX2_says_9 : decode cX2_says 9 = .ok (.aload_n 0, 1) := dk_42 (dk_at dksX2_says_0 9 rfl rfl)
theorem dX2_says_10 : decode cX2_says 10 = .ok (.getfield 16, 3) := dk_180 0 16 (dk_at dksX2_says_0 10 rfl rfl)
theorem dX2_says_13 : decode cX2_says 13 = .ok (.sipush 681, 3) := dk_17 2 169 (dk_at dksX2_says_0 13 rfl rfl)
theorem dX2_says_16 : decode cX2_says 16 = .ok (.iload_n 1, 1) := dk_27 (dk_at dksX2_says_0 16 rfl rfl)
theorem dX2_says_17 : decode cX2_says 17 = .ok (.imul, 1) := dk_104 (dk_at dksX2_says_0 17 rfl rfl)
theorem dX2_says_18 : decode cX2_says 18 = .ok (.iaload, 1) := dk_46 (dk_at dksX2_says_0 18 rfl rfl)
theorem dX2_says_19 : decode cX2_says 19 = .ok (.if_icmp .ge 43, 3) := dk_162 0 43 (dk_at dksX2_says_0 19 rfl rfl)
theorem dX2_says_22 : decode cX2_says 22 = .ok (.aload_n 0, 1) := dk_42 (dk_at dksX2_says_0 22 rfl rfl)
theorem dX2_says_23 : decode cX2_says 23 = .ok (.getfield 16, 3) := dk_180 0 16 (dk_at dksX2_says_1 0 rfl rfl)
theorem dX2_says_26 : decode cX2_says 26 = .ok (.sipush 681, 3) := dk_17 2 169 (dk_at dksX2_says_1 3 rfl rfl)
theorem dX2_says_29 : decode cX2_says 29 = .ok (.iload_n 1, 1) := dk_27 (dk_at dksX2_says_1 6 rfl rfl)
theorem dX2_says_30 : decode cX2_says 30 = .ok (.imul, 1) := dk_104 (dk_at dksX2_says_1 7 rfl rfl)
theorem dX2_says_31 : decode cX2_says 31 = .ok (.iconst 1, 1) := dk_4 (dk_at dksX2_says_1 8 rfl rfl)
theorem dX2_says_32 : decode cX2_says 32 = .ok (.iadd, 1) := dk_96 (dk_at dksX2_says_1 9 rfl rfl)
theorem dX2_says_33 : decode cX2_says 33 = .ok (.iconst 3, 1) := dk_6 (dk_at dksX2_says_1 10 rfl rfl)
theorem dX2_says_34 : decode cX2_says 34 = .ok (.iload 4, 2) := dk_21 4 (dk_at dksX2_says_1 11 rfl rfl)
theorem dX2_says_36 : decode cX2_says 36 = .ok (.imul, 1) := dk_104 (dk_at dksX2_says_1 13 rfl rfl)
theorem dX2_says_37 : decode cX2_says 37 = .ok (.iadd, 1) := dk_96 (dk_at dksX2_says_1 14 rfl rfl)
theorem dX2_says_38 : decode cX2_says 38 = .ok (.iaload, 1) := dk_46 (dk_at dksX2_says_1 15 rfl rfl)
theorem dX2_says_39 : decode cX2_says 39 = .ok (.iload_n 2, 1) := dk_28 (dk_at dksX2_says_1 16 rfl rfl)
theorem dX2_says_40 : decode cX2_says 40 = .ok (.if_icmp .ne 16, 3) := dk_160 0 16 (dk_at dksX2_says_1 17 rfl rfl)
theorem dX2_says_43 : decode cX2_says 43 = .ok (.aload_n 0, 1) := dk_42 (dk_at dksX2_says_1 20 rfl rfl)
theorem dX2_says_44 : decode cX2_says 44 = .ok (.iload_n 1, 1) := dk_27 (dk_at dksX2_says_1 21 rfl rfl)
theorem dX2_says_45 : decode cX2_says 45 = .ok (.iload 4, 2) := dk_21 4 (dk_at dksX2_says_1 22 rfl rfl)
theorem dX2_says_47 : decode cX2_says 47 = .ok (.invokevirtual 278, 3) := dk_182 1 22 (dk_at dksX2_says_2 0 rfl rfl)
theorem dX2_says_50 : decode cX2_says 50 = .ok (.iconst 0, 1) := dk_3 (dk_at dksX2_says_2 3 rfl rfl)
theorem dX2_says_51 : decode cX2_says 51 = .ok (.iload_n 3, 1) := dk_29 (dk_at dksX2_says_2 4 rfl rfl)
theorem dX2_says_52 : decode cX2_says 52 = .ok (.invokestatic 281, 3) := dk_184 1 25 (dk_at dksX2_says_2 5 rfl rfl)
theorem dX2_says_55 : decode cX2_says 55 = .ok (.ireturn, 1) := dk_172 (dk_at dksX2_says_2 8 rfl rfl)
theorem dX2_says_56 : decode cX2_says 56 = .ok (.iinc 4 1, 3) := dk_132 4 1 (dk_at dksX2_says_2 9 rfl rfl)
theorem dX2_says_59 : decode cX2_says 59 = .ok (.goto (-56), 3) := dk_167 255 200 (dk_at dksX2_says_2 12 rfl rfl)
theorem dX2_says_62 : decode cX2_says 62 = .ok (.iconst 1, 1) := dk_4 (dk_at dksX2_says_2 15 rfl rfl)
theorem dX2_says_63 : decode cX2_says 63 = .ok (.ireturn, 1) := dk_172 (dk_at dksX2_says_2 16 rfl rfl)
abbrev cX2_summedUp : ByteArray := prog_20_method_61_code
def yX2_summedUp : MethodName := ⟨RX2, "summedUp", "(II)J"⟩
def dkwX2_summedUp_17 : List UInt8 := [132, 7, 1, 167, 254, 147, 42, 180, 0, 35, 3, 47, 173]
abbrev dktX2_summedUp_17 : List UInt8 := dkwX2_summedUp_17 ++ []
def dkwX2_summedUp_16 : List UInt8 := [4, 100, 21, 8, 42, 180, 0, 39, 21, 6, 4, 100, 51, 42, 180, 0, 39, 21, 6, 51, 184, 1, 18, 84]
abbrev dktX2_summedUp_16 : List UInt8 := dkwX2_summedUp_16 ++ dktX2_summedUp_17
def dkwX2_summedUp_15 : List UInt8 := [4, 100, 51, 154, 0, 7, 4, 167, 0, 4, 3, 84, 167, 0, 36, 132, 6, 255, 42, 180, 0, 39, 21, 6]
abbrev dktX2_summedUp_15 : List UInt8 := dkwX2_summedUp_15 ++ dktX2_summedUp_16
def dkwX2_summedUp_14 : List UInt8 := [167, 0, 72, 21, 8, 16, 20, 160, 0, 32, 42, 180, 0, 39, 21, 6, 4, 100, 42, 180, 0, 39, 21, 6]
abbrev dktX2_summedUp_14 : List UInt8 := dkwX2_summedUp_14 ++ dktX2_summedUp_15
def dkwX2_summedUp_13 : List UInt8 := [180, 0, 35, 21, 5, 47, 42, 180, 0, 35, 21, 5, 4, 96, 47, 184, 1, 14, 84, 132, 6, 1]
abbrev dktX2_summedUp_13 : List UInt8 := dkwX2_summedUp_13 ++ dktX2_summedUp_14
def dkwX2_summedUp_12 : List UInt8 := [80, 167, 0, 116, 21, 8, 16, 20, 162, 0, 40, 132, 5, 254, 42, 180, 0, 39, 21, 6, 21, 8, 42]
abbrev dktX2_summedUp_12 : List UInt8 := dkwX2_summedUp_12 ++ dktX2_summedUp_13
def dkwX2_summedUp_11 : List UInt8 := [167, 0, 24, 21, 8, 42, 180, 0, 35, 21, 5, 4, 100, 47, 42, 180, 0, 35, 21, 5, 47, 184, 1, 10]
abbrev dktX2_summedUp_11 : List UInt8 := dkwX2_summedUp_11 ++ dktX2_summedUp_12
def dkwX2_summedUp_10 : List UInt8 := [160, 0, 25, 42, 180, 0, 35, 21, 5, 4, 100, 47, 42, 180, 0, 35, 21, 5, 47, 184, 1, 6]
abbrev dktX2_summedUp_10 : List UInt8 := dkwX2_summedUp_10 ++ dktX2_summedUp_11
def dkwX2_summedUp_9 : List UInt8 := [167, 0, 187, 21, 8, 16, 10, 162, 0, 67, 132, 5, 255, 42, 180, 0, 35, 21, 5, 4, 100, 21, 8, 7]
abbrev dktX2_summedUp_9 : List UInt8 := dkwX2_summedUp_9 ++ dktX2_summedUp_10
def dkwX2_summedUp_8 : List UInt8 := [21, 5, 4, 100, 47, 117, 167, 0, 16, 42, 42, 180, 0, 35, 21, 5, 4, 100, 47, 182, 1, 3, 80]
abbrev dktX2_summedUp_8 : List UInt8 := dkwX2_summedUp_8 ++ dktX2_summedUp_9
def dkwX2_summedUp_7 : List UInt8 := [21, 8, 5, 160, 0, 47, 42, 180, 0, 35, 21, 5, 4, 100, 21, 8, 8, 160, 0, 16, 42, 180, 0, 35]
abbrev dktX2_summedUp_7 : List UInt8 := dkwX2_summedUp_7 ++ dktX2_summedUp_8
def dkwX2_summedUp_6 : List UInt8 := [180, 0, 35, 21, 5, 4, 100, 42, 180, 0, 35, 21, 5, 47, 80, 167, 0, 243, 21, 8, 8, 159, 0, 9]
abbrev dktX2_summedUp_6 : List UInt8 := dkwX2_summedUp_6 ++ dktX2_summedUp_7
def dkwX2_summedUp_5 : List UInt8 := [21, 8, 6, 160, 0, 38, 132, 5, 255, 132, 6, 255, 42, 180, 0, 39, 21, 6, 51, 154, 1, 6, 42]
abbrev dktX2_summedUp_5 : List UInt8 := dkwX2_summedUp_5 ++ dktX2_summedUp_6
def dkwX2_summedUp_4 : List UInt8 := [154, 0, 9, 21, 9, 133, 167, 0, 11, 42, 180, 0, 32, 21, 9, 46, 133, 80, 132, 5, 1, 167, 1, 28]
abbrev dktX2_summedUp_4 : List UInt8 := dkwX2_summedUp_4 ++ dktX2_summedUp_5
def dkwX2_summedUp_3 : List UInt8 := [5, 21, 7, 104, 96, 4, 96, 46, 54, 9, 21, 8, 4, 163, 0, 35, 42, 180, 0, 35, 21, 5, 21, 8]
abbrev dktX2_summedUp_3 : List UInt8 := dkwX2_summedUp_3 ++ dktX2_summedUp_4
def dkwX2_summedUp_2 : List UInt8 := [46, 162, 1, 102, 42, 180, 0, 16, 21, 4, 5, 21, 7, 104, 96, 46, 54, 8, 42, 180, 0, 16, 21, 4]
abbrev dktX2_summedUp_2 : List UInt8 := dkwX2_summedUp_2 ++ dktX2_summedUp_3
def dkwX2_summedUp_1 : List UInt8 := [54, 5, 3, 54, 6, 42, 180, 0, 16, 29, 4, 96, 46, 54, 7, 21, 7, 42, 180, 0, 16, 29, 5, 96]
abbrev dktX2_summedUp_1 : List UInt8 := dkwX2_summedUp_1 ++ dktX2_summedUp_2
def dkwX2_summedUp_0 : List UInt8 := [17, 2, 169, 27, 104, 4, 96, 6, 28, 104, 96, 62, 17, 2, 169, 27, 104, 16, 73, 96, 54, 4, 3]
abbrev dktX2_summedUp_0 : List UInt8 := dkwX2_summedUp_0 ++ dktX2_summedUp_1
theorem dksX2_summedUp_0 : cX2_summedUp.data.toList.drop 0 = dktX2_summedUp_0 := by decide +kernel
theorem dksX2_summedUp_1 : cX2_summedUp.data.toList.drop 23 = dktX2_summedUp_1 := dk_seg dksX2_summedUp_0 23 rfl rfl
theorem dksX2_summedUp_2 : cX2_summedUp.data.toList.drop 47 = dktX2_summedUp_2 := dk_seg dksX2_summedUp_1 24 rfl rfl
theorem dksX2_summedUp_3 : cX2_summedUp.data.toList.drop 71 = dktX2_summedUp_3 := dk_seg dksX2_summedUp_2 24 rfl rfl
theorem dksX2_summedUp_4 : cX2_summedUp.data.toList.drop 95 = dktX2_summedUp_4 := dk_seg dksX2_summedUp_3 24 rfl rfl
theorem dksX2_summedUp_5 : cX2_summedUp.data.toList.drop 119 = dktX2_summedUp_5 := dk_seg dksX2_summedUp_4 24 rfl rfl
theorem dksX2_summedUp_6 : cX2_summedUp.data.toList.drop 142 = dktX2_summedUp_6 := dk_seg dksX2_summedUp_5 23 rfl rfl
theorem dksX2_summedUp_7 : cX2_summedUp.data.toList.drop 166 = dktX2_summedUp_7 := dk_seg dksX2_summedUp_6 24 rfl rfl
theorem dksX2_summedUp_8 : cX2_summedUp.data.toList.drop 190 = dktX2_summedUp_8 := dk_seg dksX2_summedUp_7 24 rfl rfl
theorem dksX2_summedUp_9 : cX2_summedUp.data.toList.drop 213 = dktX2_summedUp_9 := dk_seg dksX2_summedUp_8 23 rfl rfl
theorem dksX2_summedUp_10 : cX2_summedUp.data.toList.drop 237 = dktX2_summedUp_10 := dk_seg dksX2_summedUp_9 24 rfl rfl
theorem dksX2_summedUp_11 : cX2_summedUp.data.toList.drop 259 = dktX2_summedUp_11 := dk_seg dksX2_summedUp_10 22 rfl rfl
theorem dksX2_summedUp_12 : cX2_summedUp.data.toList.drop 283 = dktX2_summedUp_12 := dk_seg dksX2_summedUp_11 24 rfl rfl
theorem dksX2_summedUp_13 : cX2_summedUp.data.toList.drop 306 = dktX2_summedUp_13 := dk_seg dksX2_summedUp_12 23 rfl rfl
theorem dksX2_summedUp_14 : cX2_summedUp.data.toList.drop 328 = dktX2_summedUp_14 := dk_seg dksX2_summedUp_13 22 rfl rfl
theorem dksX2_summedUp_15 : cX2_summedUp.data.toList.drop 352 = dktX2_summedUp_15 := dk_seg dksX2_summedUp_14 24 rfl rfl
theorem dksX2_summedUp_16 : cX2_summedUp.data.toList.drop 376 = dktX2_summedUp_16 := dk_seg dksX2_summedUp_15 24 rfl rfl
theorem dksX2_summedUp_17 : cX2_summedUp.data.toList.drop 400 = dktX2_summedUp_17 := dk_seg dksX2_summedUp_16 24 rfl rfl
theorem dX2_summedUp_0 : decode cX2_summedUp 0 = .ok (.sipush 681, 3) := dk_17 2 169 (dk_at dksX2_summedUp_0 0 rfl rfl)
theorem dX2_summedUp_3 : decode cX2_summedUp 3 = .ok (.iload_n 1, 1) := dk_27 (dk_at dksX2_summedUp_0 3 rfl rfl)
theorem dX2_summedUp_4 : decode cX2_summedUp 4 = .ok (.imul, 1) := dk_104 (dk_at dksX2_summedUp_0 4 rfl rfl)
theorem dX2_summedUp_5 : decode cX2_summedUp 5 = .ok (.iconst 1, 1) := dk_4 (dk_at dksX2_summedUp_0 5 rfl rfl)
theorem dX2_summedUp_6 : decode cX2_summedUp 6 = .ok (.iadd, 1) := dk_96 (dk_at dksX2_summedUp_0 6 rfl rfl)
theorem dX2_summedUp_7 : decode cX2_summedUp 7 = .ok (.iconst 3, 1) := dk_6 (dk_at dksX2_summedUp_0 7 rfl rfl)
theorem dX2_summedUp_8 : decode cX2_summedUp 8 = .ok (.iload_n 2, 1) := dk_28 (dk_at dksX2_summedUp_0 8 rfl rfl)
theorem dX2_summedUp_9 : decode cX2_summedUp 9 = .ok (.imul, 1) := dk_104 (dk_at dksX2_summedUp_0 9 rfl rfl)
theorem dX2_summedUp_10 : decode cX2_summedUp 10 = .ok (.iadd, 1) := dk_96 (dk_at dksX2_summedUp_0 10 rfl rfl)
theorem dX2_summedUp_11 : decode cX2_summedUp 11 = .ok (.istore_n 3, 1) := dk_62 (dk_at dksX2_summedUp_0 11 rfl rfl)
theorem dX2_summedUp_12 : decode cX2_summedUp 12 = .ok (.sipush 681, 3) := dk_17 2 169 (dk_at dksX2_summedUp_0 12 rfl rfl)
theorem dX2_summedUp_15 : decode cX2_summedUp 15 = .ok (.iload_n 1, 1) := dk_27 (dk_at dksX2_summedUp_0 15 rfl rfl)
theorem dX2_summedUp_16 : decode cX2_summedUp 16 = .ok (.imul, 1) := dk_104 (dk_at dksX2_summedUp_0 16 rfl rfl)
theorem dX2_summedUp_17 : decode cX2_summedUp 17 = .ok (.bipush 73, 2) := dk_16 73 (dk_at dksX2_summedUp_0 17 rfl rfl)
theorem dX2_summedUp_19 : decode cX2_summedUp 19 = .ok (.iadd, 1) := dk_96 (dk_at dksX2_summedUp_0 19 rfl rfl)
theorem dX2_summedUp_20 : decode cX2_summedUp 20 = .ok (.istore 4, 2) := dk_54 4 (dk_at dksX2_summedUp_0 20 rfl rfl)
theorem dX2_summedUp_22 : decode cX2_summedUp 22 = .ok (.iconst 0, 1) := dk_3 (dk_at dksX2_summedUp_0 22 rfl rfl)
theorem dX2_summedUp_23 : decode cX2_summedUp 23 = .ok (.istore 5, 2) := dk_54 5 (dk_at dksX2_summedUp_1 0 rfl rfl)
theorem dX2_summedUp_25 : decode cX2_summedUp 25 = .ok (.iconst 0, 1) := dk_3 (dk_at dksX2_summedUp_1 2 rfl rfl)
theorem dX2_summedUp_26 : decode cX2_summedUp 26 = .ok (.istore 6, 2) := dk_54 6 (dk_at dksX2_summedUp_1 3 rfl rfl)
theorem dX2_summedUp_28 : decode cX2_summedUp 28 = .ok (.aload_n 0, 1) := dk_42 (dk_at dksX2_summedUp_1 5 rfl rfl)
theorem dX2_summedUp_29 : decode cX2_summedUp 29 = .ok (.getfield 16, 3) := dk_180 0 16 (dk_at dksX2_summedUp_1 6 rfl rfl)
theorem dX2_summedUp_32 : decode cX2_summedUp 32 = .ok (.iload_n 3, 1) := dk_29 (dk_at dksX2_summedUp_1 9 rfl rfl)
theorem dX2_summedUp_33 : decode cX2_summedUp 33 = .ok (.iconst 1, 1) := dk_4 (dk_at dksX2_summedUp_1 10 rfl rfl)
theorem dX2_summedUp_34 : decode cX2_summedUp 34 = .ok (.iadd, 1) := dk_96 (dk_at dksX2_summedUp_1 11 rfl rfl)
theorem dX2_summedUp_35 : decode cX2_summedUp 35 = .ok (.iaload, 1) := dk_46 (dk_at dksX2_summedUp_1 12 rfl rfl)
theorem dX2_summedUp_36 : decode cX2_summedUp 36 = .ok (.istore 7, 2) := dk_54 7 (dk_at dksX2_summedUp_1 13 rfl rfl)
theorem dX2_summedUp_38 : decode cX2_summedUp 38 = .ok (.iload 7, 2) := dk_21 7 (dk_at dksX2_summedUp_1 15 rfl rfl)
theorem dX2_summedUp_40 : decode cX2_summedUp 40 = .ok (.aload_n 0, 1) := dk_42 (dk_at dksX2_summedUp_1 17 rfl rfl)
theorem dX2_summedUp_41 : decode cX2_summedUp 41 = .ok (.getfield 16, 3) := dk_180 0 16 (dk_at dksX2_summedUp_1 18 rfl rfl)
theorem dX2_summedUp_44 : decode cX2_summedUp 44 = .ok (.iload_n 3, 1) := dk_29 (dk_at dksX2_summedUp_1 21 rfl rfl)
theorem dX2_summedUp_45 : decode cX2_summedUp 45 = .ok (.iconst 2, 1) := dk_5 (dk_at dksX2_summedUp_1 22 rfl rfl)
theorem dX2_summedUp_46 : decode cX2_summedUp 46 = .ok (.iadd, 1) := dk_96 (dk_at dksX2_summedUp_1 23 rfl rfl)
theorem dX2_summedUp_47 : decode cX2_summedUp 47 = .ok (.iaload, 1) := dk_46 (dk_at dksX2_summedUp_2 0 rfl rfl)
theorem dX2_summedUp_48 : decode cX2_summedUp 48 = .ok (.if_icmp .ge 358, 3) := dk_162 1 102 (dk_at dksX2_summedUp_2 1 rfl rfl)
theorem dX2_summedUp_51 : decode cX2_summedUp 51 = .ok (.aload_n 0, 1) := dk_42 (dk_at dksX2_summedUp_2 4 rfl rfl)
theorem dX2_summedUp_52 : decode cX2_summedUp 52 = .ok (.getfield 16, 3) := dk_180 0 16 (dk_at dksX2_summedUp_2 5 rfl rfl)
theorem dX2_summedUp_55 : decode cX2_summedUp 55 = .ok (.iload 4, 2) := dk_21 4 (dk_at dksX2_summedUp_2 8 rfl rfl)
theorem dX2_summedUp_57 : decode cX2_summedUp 57 = .ok (.iconst 2, 1) := dk_5 (dk_at dksX2_summedUp_2 10 rfl rfl)
theorem dX2_summedUp_58 : decode cX2_summedUp 58 = .ok (.iload 7, 2) := dk_21 7 (dk_at dksX2_summedUp_2 11 rfl rfl)
theorem dX2_summedUp_60 : decode cX2_summedUp 60 = .ok (.imul, 1) := dk_104 (dk_at dksX2_summedUp_2 13 rfl rfl)
theorem dX2_summedUp_61 : decode cX2_summedUp 61 = .ok (.iadd, 1) := dk_96 (dk_at dksX2_summedUp_2 14 rfl rfl)
theorem dX2_summedUp_62 : decode cX2_summedUp 62 = .ok (.iaload, 1) := dk_46 (dk_at dksX2_summedUp_2 15 rfl rfl)
theorem dX2_summedUp_63 : decode cX2_summedUp 63 = .ok (.istore 8, 2) := dk_54 8 (dk_at dksX2_summedUp_2 16 rfl rfl)
theorem dX2_summedUp_65 : decode cX2_summedUp 65 = .ok (.aload_n 0, 1) := dk_42 (dk_at dksX2_summedUp_2 18 rfl rfl)
theorem dX2_summedUp_66 : decode cX2_summedUp 66 = .ok (.getfield 16, 3) := dk_180 0 16 (dk_at dksX2_summedUp_2 19 rfl rfl)
theorem dX2_summedUp_69 : decode cX2_summedUp 69 = .ok (.iload 4, 2) := dk_21 4 (dk_at dksX2_summedUp_2 22 rfl rfl)
theorem dX2_summedUp_71 : decode cX2_summedUp 71 = .ok (.iconst 2, 1) := dk_5 (dk_at dksX2_summedUp_3 0 rfl rfl)
theorem dX2_summedUp_72 : decode cX2_summedUp 72 = .ok (.iload 7, 2) := dk_21 7 (dk_at dksX2_summedUp_3 1 rfl rfl)
theorem dX2_summedUp_74 : decode cX2_summedUp 74 = .ok (.imul, 1) := dk_104 (dk_at dksX2_summedUp_3 3 rfl rfl)
theorem dX2_summedUp_75 : decode cX2_summedUp 75 = .ok (.iadd, 1) := dk_96 (dk_at dksX2_summedUp_3 4 rfl rfl)
theorem dX2_summedUp_76 : decode cX2_summedUp 76 = .ok (.iconst 1, 1) := dk_4 (dk_at dksX2_summedUp_3 5 rfl rfl)
theorem dX2_summedUp_77 : decode cX2_summedUp 77 = .ok (.iadd, 1) := dk_96 (dk_at dksX2_summedUp_3 6 rfl rfl)
theorem dX2_summedUp_78 : decode cX2_summedUp 78 = .ok (.iaload, 1) := dk_46 (dk_at dksX2_summedUp_3 7 rfl rfl)
theorem dX2_summedUp_79 : decode cX2_summedUp 79 = .ok (.istore 9, 2) := dk_54 9 (dk_at dksX2_summedUp_3 8 rfl rfl)
theorem dX2_summedUp_81 : decode cX2_summedUp 81 = .ok (.iload 8, 2) := dk_21 8 (dk_at dksX2_summedUp_3 10 rfl rfl)
theorem dX2_summedUp_83 : decode cX2_summedUp 83 = .ok (.iconst 1, 1) := dk_4 (dk_at dksX2_summedUp_3 12 rfl rfl)
theorem dX2_summedUp_84 : decode cX2_summedUp 84 = .ok (.if_icmp .gt 35, 3) := dk_163 0 35 (dk_at dksX2_summedUp_3 13 rfl rfl)
theorem dX2_summedUp_87 : decode cX2_summedUp 87 = .ok (.aload_n 0, 1) := dk_42 (dk_at dksX2_summedUp_3 16 rfl rfl)
theorem dX2_summedUp_88 : decode cX2_summedUp 88 = .ok (.getfield 35, 3) := dk_180 0 35 (dk_at dksX2_summedUp_3 17 rfl rfl)
theorem dX2_summedUp_91 : decode cX2_summedUp 91 = .ok (.iload 5, 2) := dk_21 5 (dk_at dksX2_summedUp_3 20 rfl rfl)
theorem dX2_summedUp_93 : decode cX2_summedUp 93 = .ok (.iload 8, 2) := dk_21 8 (dk_at dksX2_summedUp_3 22 rfl rfl)
theorem dX2_summedUp_95 : decode cX2_summedUp 95 = .ok (.ifCond .ne 9, 3) := dk_154 0 9 (dk_at dksX2_summedUp_4 0 rfl rfl)
theorem dX2_summedUp_98 : decode cX2_summedUp 98 = .ok (.iload 9, 2) := dk_21 9 (dk_at dksX2_summedUp_4 3 rfl rfl)
theorem dX2_summedUp_100 : decode cX2_summedUp 100 = .ok (.i2l, 1) := dk_133 (dk_at dksX2_summedUp_4 5 rfl rfl)
theorem dX2_summedUp_101 : decode cX2_summedUp 101 = .ok (.goto 11, 3) := dk_167 0 11 (dk_at dksX2_summedUp_4 6 rfl rfl)
theorem dX2_summedUp_104 : decode cX2_summedUp 104 = .ok (.aload_n 0, 1) := dk_42 (dk_at dksX2_summedUp_4 9 rfl rfl)
theorem dX2_summedUp_105 : decode cX2_summedUp 105 = .ok (.getfield 32, 3) := dk_180 0 32 (dk_at dksX2_summedUp_4 10 rfl rfl)
theorem dX2_summedUp_108 : decode cX2_summedUp 108 = .ok (.iload 9, 2) := dk_21 9 (dk_at dksX2_summedUp_4 13 rfl rfl)
theorem dX2_summedUp_110 : decode cX2_summedUp 110 = .ok (.iaload, 1) := dk_46 (dk_at dksX2_summedUp_4 15 rfl rfl)
theorem dX2_summedUp_111 : decode cX2_summedUp 111 = .ok (.i2l, 1) := dk_133 (dk_at dksX2_summedUp_4 16 rfl rfl)
theorem dX2_summedUp_112 : decode cX2_summedUp 112 = .ok (.lastore, 1) := dk_80 (dk_at dksX2_summedUp_4 17 rfl rfl)
theorem dX2_summedUp_113 : decode cX2_summedUp 113 = .ok (.iinc 5 1, 3) := dk_132 5 1 (dk_at dksX2_summedUp_4 18 rfl rfl)
theorem dX2_summedUp_116 : decode cX2_summedUp 116 = .ok (.goto 284, 3) := dk_167 1 28 (dk_at dksX2_summedUp_4 21 rfl rfl)
theorem dX2_summedUp_119 : decode cX2_summedUp 119 = .ok (.iload 8, 2) := dk_21 8 (dk_at dksX2_summedUp_5 0 rfl rfl)
theorem dX2_summedUp_121 : decode cX2_summedUp 121 = .ok (.iconst 3, 1) := dk_6 (dk_at dksX2_summedUp_5 2 rfl rfl)
theorem dX2_summedUp_122 : decode cX2_summedUp 122 = .ok (.if_icmp .ne 38, 3) := dk_160 0 38 (dk_at dksX2_summedUp_5 3 rfl rfl)
theorem dX2_summedUp_125 : decode cX2_summedUp 125 = .ok (.iinc 5 (-1), 3) := dk_132 5 255 (dk_at dksX2_summedUp_5 6 rfl rfl)
theorem dX2_summedUp_128 : decode cX2_summedUp 128 = .ok (.iinc 6 (-1), 3) := dk_132 6 255 (dk_at dksX2_summedUp_5 9 rfl rfl)
theorem dX2_summedUp_131 : decode cX2_summedUp 131 = .ok (.aload_n 0, 1) := dk_42 (dk_at dksX2_summedUp_5 12 rfl rfl)
theorem dX2_summedUp_132 : decode cX2_summedUp 132 = .ok (.getfield 39, 3) := dk_180 0 39 (dk_at dksX2_summedUp_5 13 rfl rfl)
theorem dX2_summedUp_135 : decode cX2_summedUp 135 = .ok (.iload 6, 2) := dk_21 6 (dk_at dksX2_summedUp_5 16 rfl rfl)
theorem dX2_summedUp_137 : decode cX2_summedUp 137 = .ok (.baload, 1) := dk_51 (dk_at dksX2_summedUp_5 18 rfl rfl)
theorem dX2_summedUp_138 : decode cX2_summedUp 138 = .ok (.ifCond .ne 262, 3) := dk_154 1 6 (dk_at dksX2_summedUp_5 19 rfl rfl)
theorem dX2_summedUp_141 : decode cX2_summedUp 141 = .ok (.aload_n 0, 1) := dk_42 (dk_at dksX2_summedUp_5 22 rfl rfl)
theorem dX2_summedUp_142 : decode cX2_summedUp 142 = .ok (.getfield 35, 3) := dk_180 0 35 (dk_at dksX2_summedUp_6 0 rfl rfl)
theorem dX2_summedUp_145 : decode cX2_summedUp 145 = .ok (.iload 5, 2) := dk_21 5 (dk_at dksX2_summedUp_6 3 rfl rfl)
theorem dX2_summedUp_147 : decode cX2_summedUp 147 = .ok (.iconst 1, 1) := dk_4 (dk_at dksX2_summedUp_6 5 rfl rfl)
theorem dX2_summedUp_148 : decode cX2_summedUp 148 = .ok (.isub, 1) := dk_100 (dk_at dksX2_summedUp_6 6 rfl rfl)
theorem dX2_summedUp_149 : decode cX2_summedUp 149 = .ok (.aload_n 0, 1) := dk_42 (dk_at dksX2_summedUp_6 7 rfl rfl)
theorem dX2_summedUp_150 : decode cX2_summedUp 150 = .ok (.getfield 35, 3) := dk_180 0 35 (dk_at dksX2_summedUp_6 8 rfl rfl)
theorem dX2_summedUp_153 : decode cX2_summedUp 153 = .ok (.iload 5, 2) := dk_21 5 (dk_at dksX2_summedUp_6 11 rfl rfl)
theorem dX2_summedUp_155 : decode cX2_summedUp 155 = .ok (.laload, 1) := dk_47 (dk_at dksX2_summedUp_6 13 rfl rfl)
theorem dX2_summedUp_156 : decode cX2_summedUp 156 = .ok (.lastore, 1) := dk_80 (dk_at dksX2_summedUp_6 14 rfl rfl)
theorem dX2_summedUp_157 : decode cX2_summedUp 157 = .ok (.goto 243, 3) := dk_167 0 243 (dk_at dksX2_summedUp_6 15 rfl rfl)
theorem dX2_summedUp_160 : decode cX2_summedUp 160 = .ok (.iload 8, 2) := dk_21 8 (dk_at dksX2_summedUp_6 18 rfl rfl)
theorem dX2_summedUp_162 : decode cX2_summedUp 162 = .ok (.iconst 5, 1) := dk_8 (dk_at dksX2_summedUp_6 20 rfl rfl)
theorem dX2_summedUp_163 : decode cX2_summedUp 163 = .ok (.if_icmp .eq 9, 3) := dk_159 0 9 (dk_at dksX2_summedUp_6 21 rfl rfl)
theorem dX2_summedUp_166 : decode cX2_summedUp 166 = .ok (.iload 8, 2) := dk_21 8 (dk_at dksX2_summedUp_7 0 rfl rfl)
theorem dX2_summedUp_168 : decode cX2_summedUp 168 = .ok (.iconst 2, 1) := dk_5 (dk_at dksX2_summedUp_7 2 rfl rfl)
theorem dX2_summedUp_169 : decode cX2_summedUp 169 = .ok (.if_icmp .ne 47, 3) := dk_160 0 47 (dk_at dksX2_summedUp_7 3 rfl rfl)
theorem dX2_summedUp_172 : decode cX2_summedUp 172 = .ok (.aload_n 0, 1) := dk_42 (dk_at dksX2_summedUp_7 6 rfl rfl)
theorem dX2_summedUp_173 : decode cX2_summedUp 173 = .ok (.getfield 35, 3) := dk_180 0 35 (dk_at dksX2_summedUp_7 7 rfl rfl)
theorem dX2_summedUp_176 : decode cX2_summedUp 176 = .ok (.iload 5, 2) := dk_21 5 (dk_at dksX2_summedUp_7 10 rfl rfl)
theorem dX2_summedUp_178 : decode cX2_summedUp 178 = .ok (.iconst 1, 1) := dk_4 (dk_at dksX2_summedUp_7 12 rfl rfl)
theorem dX2_summedUp_179 : decode cX2_summedUp 179 = .ok (.isub, 1) := dk_100 (dk_at dksX2_summedUp_7 13 rfl rfl)
theorem dX2_summedUp_180 : decode cX2_summedUp 180 = .ok (.iload 8, 2) := dk_21 8 (dk_at dksX2_summedUp_7 14 rfl rfl)
theorem dX2_summedUp_182 : decode cX2_summedUp 182 = .ok (.iconst 5, 1) := dk_8 (dk_at dksX2_summedUp_7 16 rfl rfl)
theorem dX2_summedUp_183 : decode cX2_summedUp 183 = .ok (.if_icmp .ne 16, 3) := dk_160 0 16 (dk_at dksX2_summedUp_7 17 rfl rfl)
theorem dX2_summedUp_186 : decode cX2_summedUp 186 = .ok (.aload_n 0, 1) := dk_42 (dk_at dksX2_summedUp_7 20 rfl rfl)
theorem dX2_summedUp_187 : decode cX2_summedUp 187 = .ok (.getfield 35, 3) := dk_180 0 35 (dk_at dksX2_summedUp_7 21 rfl rfl)
theorem dX2_summedUp_190 : decode cX2_summedUp 190 = .ok (.iload 5, 2) := dk_21 5 (dk_at dksX2_summedUp_8 0 rfl rfl)
theorem dX2_summedUp_192 : decode cX2_summedUp 192 = .ok (.iconst 1, 1) := dk_4 (dk_at dksX2_summedUp_8 2 rfl rfl)
theorem dX2_summedUp_193 : decode cX2_summedUp 193 = .ok (.isub, 1) := dk_100 (dk_at dksX2_summedUp_8 3 rfl rfl)
theorem dX2_summedUp_194 : decode cX2_summedUp 194 = .ok (.laload, 1) := dk_47 (dk_at dksX2_summedUp_8 4 rfl rfl)
theorem dX2_summedUp_195 : decode cX2_summedUp 195 = .ok (.lneg, 1) := dk_117 (dk_at dksX2_summedUp_8 5 rfl rfl)
theorem dX2_summedUp_196 : decode cX2_summedUp 196 = .ok (.goto 16, 3) := dk_167 0 16 (dk_at dksX2_summedUp_8 6 rfl rfl)
theorem dX2_summedUp_199 : decode cX2_summedUp 199 = .ok (.aload_n 0, 1) := dk_42 (dk_at dksX2_summedUp_8 9 rfl rfl)
theorem dX2_summedUp_200 : decode cX2_summedUp 200 = .ok (.aload_n 0, 1) := dk_42 (dk_at dksX2_summedUp_8 10 rfl rfl)
theorem dX2_summedUp_201 : decode cX2_summedUp 201 = .ok (.getfield 35, 3) := dk_180 0 35 (dk_at dksX2_summedUp_8 11 rfl rfl)
theorem dX2_summedUp_204 : decode cX2_summedUp 204 = .ok (.iload 5, 2) := dk_21 5 (dk_at dksX2_summedUp_8 14 rfl rfl)
theorem dX2_summedUp_206 : decode cX2_summedUp 206 = .ok (.iconst 1, 1) := dk_4 (dk_at dksX2_summedUp_8 16 rfl rfl)
theorem dX2_summedUp_207 : decode cX2_summedUp 207 = .ok (.isub, 1) := dk_100 (dk_at dksX2_summedUp_8 17 rfl rfl)
theorem dX2_summedUp_208 : decode cX2_summedUp 208 = .ok (.laload, 1) := dk_47 (dk_at dksX2_summedUp_8 18 rfl rfl)
theorem dX2_summedUp_209 : decode cX2_summedUp 209 = .ok (.invokevirtual 259, 3) := dk_182 1 3 (dk_at dksX2_summedUp_8 19 rfl rfl)
theorem dX2_summedUp_212 : decode cX2_summedUp 212 = .ok (.lastore, 1) := dk_80 (dk_at dksX2_summedUp_8 22 rfl rfl)
theorem dX2_summedUp_213 : decode cX2_summedUp 213 = .ok (.goto 187, 3) := dk_167 0 187 (dk_at dksX2_summedUp_9 0 rfl rfl)
theorem dX2_summedUp_216 : decode cX2_summedUp 216 = .ok (.iload 8, 2) := dk_21 8 (dk_at dksX2_summedUp_9 3 rfl rfl)
theorem dX2_summedUp_218 : decode cX2_summedUp 218 = .ok (.bipush 10, 2) := dk_16 10 (dk_at dksX2_summedUp_9 5 rfl rfl)
theorem dX2_summedUp_220 : decode cX2_summedUp 220 = .ok (.if_icmp .ge 67, 3) := dk_162 0 67 (dk_at dksX2_summedUp_9 7 rfl rfl)
theorem dX2_summedUp_223 : decode cX2_summedUp 223 = .ok (.iinc 5 (-1), 3) := dk_132 5 255 (dk_at dksX2_summedUp_9 10 rfl rfl)
theorem dX2_summedUp_226 : decode cX2_summedUp 226 = .ok (.aload_n 0, 1) := dk_42 (dk_at dksX2_summedUp_9 13 rfl rfl)
theorem dX2_summedUp_227 : decode cX2_summedUp 227 = .ok (.getfield 35, 3) := dk_180 0 35 (dk_at dksX2_summedUp_9 14 rfl rfl)
theorem dX2_summedUp_230 : decode cX2_summedUp 230 = .ok (.iload 5, 2) := dk_21 5 (dk_at dksX2_summedUp_9 17 rfl rfl)
theorem dX2_summedUp_232 : decode cX2_summedUp 232 = .ok (.iconst 1, 1) := dk_4 (dk_at dksX2_summedUp_9 19 rfl rfl)
theorem dX2_summedUp_233 : decode cX2_summedUp 233 = .ok (.isub, 1) := dk_100 (dk_at dksX2_summedUp_9 20 rfl rfl)
theorem dX2_summedUp_234 : decode cX2_summedUp 234 = .ok (.iload 8, 2) := dk_21 8 (dk_at dksX2_summedUp_9 21 rfl rfl)
theorem dX2_summedUp_236 : decode cX2_summedUp 236 = .ok (.iconst 4, 1) := dk_7 (dk_at dksX2_summedUp_9 23 rfl rfl)
theorem dX2_summedUp_237 : decode cX2_summedUp 237 = .ok (.if_icmp .ne 25, 3) := dk_160 0 25 (dk_at dksX2_summedUp_10 0 rfl rfl)
theorem dX2_summedUp_240 : decode cX2_summedUp 240 = .ok (.aload_n 0, 1) := dk_42 (dk_at dksX2_summedUp_10 3 rfl rfl)
theorem dX2_summedUp_241 : decode cX2_summedUp 241 = .ok (.getfield 35, 3) := dk_180 0 35 (dk_at dksX2_summedUp_10 4 rfl rfl)
theorem dX2_summedUp_244 : decode cX2_summedUp 244 = .ok (.iload 5, 2) := dk_21 5 (dk_at dksX2_summedUp_10 7 rfl rfl)
theorem dX2_summedUp_246 : decode cX2_summedUp 246 = .ok (.iconst 1, 1) := dk_4 (dk_at dksX2_summedUp_10 9 rfl rfl)
theorem dX2_summedUp_247 : decode cX2_summedUp 247 = .ok (.isub, 1) := dk_100 (dk_at dksX2_summedUp_10 10 rfl rfl)
theorem dX2_summedUp_248 : decode cX2_summedUp 248 = .ok (.laload, 1) := dk_47 (dk_at dksX2_summedUp_10 11 rfl rfl)
theorem dX2_summedUp_249 : decode cX2_summedUp 249 = .ok (.aload_n 0, 1) := dk_42 (dk_at dksX2_summedUp_10 12 rfl rfl)
theorem dX2_summedUp_250 : decode cX2_summedUp 250 = .ok (.getfield 35, 3) := dk_180 0 35 (dk_at dksX2_summedUp_10 13 rfl rfl)
theorem dX2_summedUp_253 : decode cX2_summedUp 253 = .ok (.iload 5, 2) := dk_21 5 (dk_at dksX2_summedUp_10 16 rfl rfl)
theorem dX2_summedUp_255 : decode cX2_summedUp 255 = .ok (.laload, 1) := dk_47 (dk_at dksX2_summedUp_10 18 rfl rfl)
theorem dX2_summedUp_256 : decode cX2_summedUp 256 = .ok (.invokestatic 262, 3) := dk_184 1 6 (dk_at dksX2_summedUp_10 19 rfl rfl)
theorem dX2_summedUp_259 : decode cX2_summedUp 259 = .ok (.goto 24, 3) := dk_167 0 24 (dk_at dksX2_summedUp_11 0 rfl rfl)
theorem dX2_summedUp_262 : decode cX2_summedUp 262 = .ok (.iload 8, 2) := dk_21 8 (dk_at dksX2_summedUp_11 3 rfl rfl)
theorem dX2_summedUp_264 : decode cX2_summedUp 264 = .ok (.aload_n 0, 1) := dk_42 (dk_at dksX2_summedUp_11 5 rfl rfl)
theorem dX2_summedUp_265 : decode cX2_summedUp 265 = .ok (.getfield 35, 3) := dk_180 0 35 (dk_at dksX2_summedUp_11 6 rfl rfl)
theorem dX2_summedUp_268 : decode cX2_summedUp 268 = .ok (.iload 5, 2) := dk_21 5 (dk_at dksX2_summedUp_11 9 rfl rfl)
theorem dX2_summedUp_270 : decode cX2_summedUp 270 = .ok (.iconst 1, 1) := dk_4 (dk_at dksX2_summedUp_11 11 rfl rfl)
theorem dX2_summedUp_271 : decode cX2_summedUp 271 = .ok (.isub, 1) := dk_100 (dk_at dksX2_summedUp_11 12 rfl rfl)
theorem dX2_summedUp_272 : decode cX2_summedUp 272 = .ok (.laload, 1) := dk_47 (dk_at dksX2_summedUp_11 13 rfl rfl)
theorem dX2_summedUp_273 : decode cX2_summedUp 273 = .ok (.aload_n 0, 1) := dk_42 (dk_at dksX2_summedUp_11 14 rfl rfl)
theorem dX2_summedUp_274 : decode cX2_summedUp 274 = .ok (.getfield 35, 3) := dk_180 0 35 (dk_at dksX2_summedUp_11 15 rfl rfl)
theorem dX2_summedUp_277 : decode cX2_summedUp 277 = .ok (.iload 5, 2) := dk_21 5 (dk_at dksX2_summedUp_11 18 rfl rfl)
theorem dX2_summedUp_279 : decode cX2_summedUp 279 = .ok (.laload, 1) := dk_47 (dk_at dksX2_summedUp_11 20 rfl rfl)
theorem dX2_summedUp_280 : decode cX2_summedUp 280 = .ok (.invokestatic 266, 3) := dk_184 1 10 (dk_at dksX2_summedUp_11 21 rfl rfl)
theorem dX2_summedUp_283 : decode cX2_summedUp 283 = .ok (.lastore, 1) := dk_80 (dk_at dksX2_summedUp_12 0 rfl rfl)
theorem dX2_summedUp_284 : decode cX2_summedUp 284 = .ok (.goto 116, 3) := dk_167 0 116 (dk_at dksX2_summedUp_12 1 rfl rfl)
theorem dX2_summedUp_287 : decode cX2_summedUp 287 = .ok (.iload 8, 2) := dk_21 8 (dk_at dksX2_summedUp_12 4 rfl rfl)
theorem dX2_summedUp_289 : decode cX2_summedUp 289 = .ok (.bipush 20, 2) := dk_16 20 (dk_at dksX2_summedUp_12 6 rfl rfl)
theorem dX2_summedUp_291 : decode cX2_summedUp 291 = .ok (.if_icmp .ge 40, 3) := dk_162 0 40 (dk_at dksX2_summedUp_12 8 rfl rfl)
theorem dX2_summedUp_294 : decode cX2_summedUp 294 = .ok (.iinc 5 (-2), 3) := dk_132 5 254 (dk_at dksX2_summedUp_12 11 rfl rfl)
theorem dX2_summedUp_297 : decode cX2_summedUp 297 = .ok (.aload_n 0, 1) := dk_42 (dk_at dksX2_summedUp_12 14 rfl rfl)
theorem dX2_summedUp_298 : decode cX2_summedUp 298 = .ok (.getfield 39, 3) := dk_180 0 39 (dk_at dksX2_summedUp_12 15 rfl rfl)
theorem dX2_summedUp_301 : decode cX2_summedUp 301 = .ok (.iload 6, 2) := dk_21 6 (dk_at dksX2_summedUp_12 18 rfl rfl)
theorem dX2_summedUp_303 : decode cX2_summedUp 303 = .ok (.iload 8, 2) := dk_21 8 (dk_at dksX2_summedUp_12 20 rfl rfl)
theorem dX2_summedUp_305 : decode cX2_summedUp 305 = .ok (.aload_n 0, 1) := dk_42 (dk_at dksX2_summedUp_12 22 rfl rfl)
theorem dX2_summedUp_306 : decode cX2_summedUp 306 = .ok (.getfield 35, 3) := dk_180 0 35 (dk_at dksX2_summedUp_13 0 rfl rfl)
theorem dX2_summedUp_309 : decode cX2_summedUp 309 = .ok (.iload 5, 2) := dk_21 5 (dk_at dksX2_summedUp_13 3 rfl rfl)
theorem dX2_summedUp_311 : decode cX2_summedUp 311 = .ok (.laload, 1) := dk_47 (dk_at dksX2_summedUp_13 5 rfl rfl)
theorem dX2_summedUp_312 : decode cX2_summedUp 312 = .ok (.aload_n 0, 1) := dk_42 (dk_at dksX2_summedUp_13 6 rfl rfl)
theorem dX2_summedUp_313 : decode cX2_summedUp 313 = .ok (.getfield 35, 3) := dk_180 0 35 (dk_at dksX2_summedUp_13 7 rfl rfl)
theorem dX2_summedUp_316 : decode cX2_summedUp 316 = .ok (.iload 5, 2) := dk_21 5 (dk_at dksX2_summedUp_13 10 rfl rfl)
theorem dX2_summedUp_318 : decode cX2_summedUp 318 = .ok (.iconst 1, 1) := dk_4 (dk_at dksX2_summedUp_13 12 rfl rfl)
theorem dX2_summedUp_319 : decode cX2_summedUp 319 = .ok (.iadd, 1) := dk_96 (dk_at dksX2_summedUp_13 13 rfl rfl)
theorem dX2_summedUp_320 : decode cX2_summedUp 320 = .ok (.laload, 1) := dk_47 (dk_at dksX2_summedUp_13 14 rfl rfl)
theorem dX2_summedUp_321 : decode cX2_summedUp 321 = .ok (.invokestatic 270, 3) := dk_184 1 14 (dk_at dksX2_summedUp_13 15 rfl rfl)
theorem dX2_summedUp_324 : decode cX2_summedUp 324 = .ok (.bastore, 1) := dk_84 (dk_at dksX2_summedUp_13 18 rfl rfl)
theorem dX2_summedUp_325 : decode cX2_summedUp 325 = .ok (.iinc 6 1, 3) := dk_132 6 1 (dk_at dksX2_summedUp_13 19 rfl rfl)
theorem dX2_summedUp_328 : decode cX2_summedUp 328 = .ok (.goto 72, 3) := dk_167 0 72 (dk_at dksX2_summedUp_14 0 rfl rfl)
theorem dX2_summedUp_331 : decode cX2_summedUp 331 = .ok (.iload 8, 2) := dk_21 8 (dk_at dksX2_summedUp_14 3 rfl rfl)
theorem dX2_summedUp_333 : decode cX2_summedUp 333 = .ok (.bipush 20, 2) := dk_16 20 (dk_at dksX2_summedUp_14 5 rfl rfl)
theorem dX2_summedUp_335 : decode cX2_summedUp 335 = .ok (.if_icmp .ne 32, 3) := dk_160 0 32 (dk_at dksX2_summedUp_14 7 rfl rfl)
theorem dX2_summedUp_338 : decode cX2_summedUp 338 = .ok (.aload_n 0, 1) := dk_42 (dk_at dksX2_summedUp_14 10 rfl rfl)
theorem dX2_summedUp_339 : decode cX2_summedUp 339 = .ok (.getfield 39, 3) := dk_180 0 39 (dk_at dksX2_summedUp_14 11 rfl rfl)
theorem dX2_summedUp_342 : decode cX2_summedUp 342 = .ok (.iload 6, 2) := dk_21 6 (dk_at dksX2_summedUp_14 14 rfl rfl)
theorem dX2_summedUp_344 : decode cX2_summedUp 344 = .ok (.iconst 1, 1) := dk_4 (dk_at dksX2_summedUp_14 16 rfl rfl)
theorem dX2_summedUp_345 : decode cX2_summedUp 345 = .ok (.isub, 1) := dk_100 (dk_at dksX2_summedUp_14 17 rfl rfl)
theorem dX2_summedUp_346 : decode cX2_summedUp 346 = .ok (.aload_n 0, 1) := dk_42 (dk_at dksX2_summedUp_14 18 rfl rfl)
theorem dX2_summedUp_347 : decode cX2_summedUp 347 = .ok (.getfield 39, 3) := dk_180 0 39 (dk_at dksX2_summedUp_14 19 rfl rfl)
theorem dX2_summedUp_350 : decode cX2_summedUp 350 = .ok (.iload 6, 2) := dk_21 6 (dk_at dksX2_summedUp_14 22 rfl rfl)
theorem dX2_summedUp_352 : decode cX2_summedUp 352 = .ok (.iconst 1, 1) := dk_4 (dk_at dksX2_summedUp_15 0 rfl rfl)
theorem dX2_summedUp_353 : decode cX2_summedUp 353 = .ok (.isub, 1) := dk_100 (dk_at dksX2_summedUp_15 1 rfl rfl)
theorem dX2_summedUp_354 : decode cX2_summedUp 354 = .ok (.baload, 1) := dk_51 (dk_at dksX2_summedUp_15 2 rfl rfl)
theorem dX2_summedUp_355 : decode cX2_summedUp 355 = .ok (.ifCond .ne 7, 3) := dk_154 0 7 (dk_at dksX2_summedUp_15 3 rfl rfl)
theorem dX2_summedUp_358 : decode cX2_summedUp 358 = .ok (.iconst 1, 1) := dk_4 (dk_at dksX2_summedUp_15 6 rfl rfl)
theorem dX2_summedUp_359 : decode cX2_summedUp 359 = .ok (.goto 4, 3) := dk_167 0 4 (dk_at dksX2_summedUp_15 7 rfl rfl)
theorem dX2_summedUp_362 : decode cX2_summedUp 362 = .ok (.iconst 0, 1) := dk_3 (dk_at dksX2_summedUp_15 10 rfl rfl)
theorem dX2_summedUp_363 : decode cX2_summedUp 363 = .ok (.bastore, 1) := dk_84 (dk_at dksX2_summedUp_15 11 rfl rfl)
theorem dX2_summedUp_364 : decode cX2_summedUp 364 = .ok (.goto 36, 3) := dk_167 0 36 (dk_at dksX2_summedUp_15 12 rfl rfl)
theorem dX2_summedUp_367 : decode cX2_summedUp 367 = .ok (.iinc 6 (-1), 3) := dk_132 6 255 (dk_at dksX2_summedUp_15 15 rfl rfl)
theorem dX2_summedUp_370 : decode cX2_summedUp 370 = .ok (.aload_n 0, 1) := dk_42 (dk_at dksX2_summedUp_15 18 rfl rfl)
theorem dX2_summedUp_371 : decode cX2_summedUp 371 = .ok (.getfield 39, 3) := dk_180 0 39 (dk_at dksX2_summedUp_15 19 rfl rfl)
theorem dX2_summedUp_374 : decode cX2_summedUp 374 = .ok (.iload 6, 2) := dk_21 6 (dk_at dksX2_summedUp_15 22 rfl rfl)
theorem dX2_summedUp_376 : decode cX2_summedUp 376 = .ok (.iconst 1, 1) := dk_4 (dk_at dksX2_summedUp_16 0 rfl rfl)
theorem dX2_summedUp_377 : decode cX2_summedUp 377 = .ok (.isub, 1) := dk_100 (dk_at dksX2_summedUp_16 1 rfl rfl)
theorem dX2_summedUp_378 : decode cX2_summedUp 378 = .ok (.iload 8, 2) := dk_21 8 (dk_at dksX2_summedUp_16 2 rfl rfl)
theorem dX2_summedUp_380 : decode cX2_summedUp 380 = .ok (.aload_n 0, 1) := dk_42 (dk_at dksX2_summedUp_16 4 rfl rfl)
theorem dX2_summedUp_381 : decode cX2_summedUp 381 = .ok (.getfield 39, 3) := dk_180 0 39 (dk_at dksX2_summedUp_16 5 rfl rfl)
theorem dX2_summedUp_384 : decode cX2_summedUp 384 = .ok (.iload 6, 2) := dk_21 6 (dk_at dksX2_summedUp_16 8 rfl rfl)
theorem dX2_summedUp_386 : decode cX2_summedUp 386 = .ok (.iconst 1, 1) := dk_4 (dk_at dksX2_summedUp_16 10 rfl rfl)
theorem dX2_summedUp_387 : decode cX2_summedUp 387 = .ok (.isub, 1) := dk_100 (dk_at dksX2_summedUp_16 11 rfl rfl)
theorem dX2_summedUp_388 : decode cX2_summedUp 388 = .ok (.baload, 1) := dk_51 (dk_at dksX2_summedUp_16 12 rfl rfl)
theorem dX2_summedUp_389 : decode cX2_summedUp 389 = .ok (.aload_n 0, 1) := dk_42 (dk_at dksX2_summedUp_16 13 rfl rfl)
theorem dX2_summedUp_390 : decode cX2_summedUp 390 = .ok (.getfield 39, 3) := dk_180 0 39 (dk_at dksX2_summedUp_16 14 rfl rfl)
theorem dX2_summedUp_393 : decode cX2_summedUp 393 = .ok (.iload 6, 2) := dk_21 6 (dk_at dksX2_summedUp_16 17 rfl rfl)
theorem dX2_summedUp_395 : decode cX2_summedUp 395 = .ok (.baload, 1) := dk_51 (dk_at dksX2_summedUp_16 19 rfl rfl)
theorem dX2_summedUp_396 : decode cX2_summedUp 396 = .ok (.invokestatic 274, 3) := dk_184 1 18 (dk_at dksX2_summedUp_16 20 rfl rfl)
theorem dX2_summedUp_399 : decode cX2_summedUp 399 = .ok (.bastore, 1) := dk_84 (dk_at dksX2_summedUp_16 23 rfl rfl)
theorem dX2_summedUp_400 : decode cX2_summedUp 400 = .ok (.iinc 7 1, 3) := dk_132 7 1 (dk_at dksX2_summedUp_17 0 rfl rfl)
theorem dX2_summedUp_403 : decode cX2_summedUp 403 = .ok (.goto (-365), 3) := dk_167 254 147 (dk_at dksX2_summedUp_17 3 rfl rfl)
theorem dX2_summedUp_406 : decode cX2_summedUp 406 = .ok (.aload_n 0, 1) := dk_42 (dk_at dksX2_summedUp_17 6 rfl rfl)
theorem dX2_summedUp_407 : decode cX2_summedUp 407 = .ok (.getfield 35, 3) := dk_180 0 35 (dk_at dksX2_summedUp_17 7 rfl rfl)
theorem dX2_summedUp_410 : decode cX2_summedUp 410 = .ok (.iconst 0, 1) := dk_3 (dk_at dksX2_summedUp_17 10 rfl rfl)
theorem dX2_summedUp_411 : decode cX2_summedUp 411 = .ok (.laload, 1) := dk_47 (dk_at dksX2_summedUp_17 11 rfl rfl)
theorem dX2_summedUp_412 : decode cX2_summedUp 412 = .ok (.lreturn, 1) := dk_173 (dk_at dksX2_summedUp_17 12 rfl rfl)
abbrev cX2_kindAt : ByteArray := prog_20_method_58_code
def yX2_kindAt : MethodName := ⟨RX2, "kindAt", "(J)J"⟩
def dkwX2_kindAt_1 : List UInt8 := [133, 167, 0, 4, 9, 173]
abbrev dktX2_kindAt_1 : List UInt8 := dkwX2_kindAt_1 ++ []
def dkwX2_kindAt_0 : List UInt8 := [31, 9, 148, 155, 0, 25, 31, 20, 1, 1, 148, 156, 0, 17, 42, 180, 0, 7, 16, 9, 31, 136, 96, 46]
abbrev dktX2_kindAt_0 : List UInt8 := dkwX2_kindAt_0 ++ dktX2_kindAt_1
theorem dksX2_kindAt_0 : cX2_kindAt.data.toList.drop 0 = dktX2_kindAt_0 := by decide +kernel
theorem dksX2_kindAt_1 : cX2_kindAt.data.toList.drop 24 = dktX2_kindAt_1 := dk_seg dksX2_kindAt_0 24 rfl rfl
theorem dX2_kindAt_0 : decode cX2_kindAt 0 = .ok (.lload_n 1, 1) := dk_31 (dk_at dksX2_kindAt_0 0 rfl rfl)
theorem dX2_kindAt_1 : decode cX2_kindAt 1 = .ok (.lconst 0, 1) := dk_9 (dk_at dksX2_kindAt_0 1 rfl rfl)
theorem dX2_kindAt_2 : decode cX2_kindAt 2 = .ok (.lcmp, 1) := dk_148 (dk_at dksX2_kindAt_0 2 rfl rfl)
theorem dX2_kindAt_3 : decode cX2_kindAt 3 = .ok (.ifCond .lt 25, 3) := dk_155 0 25 (dk_at dksX2_kindAt_0 3 rfl rfl)
theorem dX2_kindAt_6 : decode cX2_kindAt 6 = .ok (.lload_n 1, 1) := dk_31 (dk_at dksX2_kindAt_0 6 rfl rfl)
theorem dX2_kindAt_7 : decode cX2_kindAt 7 = .ok (.ldc2_w 257, 3) := dk_20 1 1 (dk_at dksX2_kindAt_0 7 rfl rfl)
theorem dX2_kindAt_10 : decode cX2_kindAt 10 = .ok (.lcmp, 1) := dk_148 (dk_at dksX2_kindAt_0 10 rfl rfl)
theorem dX2_kindAt_11 : decode cX2_kindAt 11 = .ok (.ifCond .ge 17, 3) := dk_156 0 17 (dk_at dksX2_kindAt_0 11 rfl rfl)
theorem dX2_kindAt_14 : decode cX2_kindAt 14 = .ok (.aload_n 0, 1) := dk_42 (dk_at dksX2_kindAt_0 14 rfl rfl)
theorem dX2_kindAt_15 : decode cX2_kindAt 15 = .ok (.getfield 7, 3) := dk_180 0 7 (dk_at dksX2_kindAt_0 15 rfl rfl)
theorem dX2_kindAt_18 : decode cX2_kindAt 18 = .ok (.bipush 9, 2) := dk_16 9 (dk_at dksX2_kindAt_0 18 rfl rfl)
theorem dX2_kindAt_20 : decode cX2_kindAt 20 = .ok (.lload_n 1, 1) := dk_31 (dk_at dksX2_kindAt_0 20 rfl rfl)
theorem dX2_kindAt_21 : decode cX2_kindAt 21 = .ok (.l2i, 1) := dk_136 (dk_at dksX2_kindAt_0 21 rfl rfl)
theorem dX2_kindAt_22 : decode cX2_kindAt 22 = .ok (.iadd, 1) := dk_96 (dk_at dksX2_kindAt_0 22 rfl rfl)
theorem dX2_kindAt_23 : decode cX2_kindAt 23 = .ok (.iaload, 1) := dk_46 (dk_at dksX2_kindAt_0 23 rfl rfl)
theorem dX2_kindAt_24 : decode cX2_kindAt 24 = .ok (.i2l, 1) := dk_133 (dk_at dksX2_kindAt_1 0 rfl rfl)
theorem dX2_kindAt_25 : decode cX2_kindAt 25 = .ok (.goto 4, 3) := dk_167 0 4 (dk_at dksX2_kindAt_1 1 rfl rfl)
theorem dX2_kindAt_28 : decode cX2_kindAt 28 = .ok (.lconst 0, 1) := dk_9 (dk_at dksX2_kindAt_1 4 rfl rfl)
theorem dX2_kindAt_29 : decode cX2_kindAt 29 = .ok (.lreturn, 1) := dk_173 (dk_at dksX2_kindAt_1 5 rfl rfl)
abbrev cX2_roundOf : ByteArray := prog_20_method_59_code
def yX2_roundOf : MethodName := ⟨RX2, "roundOf", "(JJ)J"⟩
def dkwX2_roundOf_0 : List UInt8 := [32, 9, 148, 157, 0, 7, 9, 167, 0, 10, 30, 32, 113, 32, 97, 32, 113, 173]
abbrev dktX2_roundOf_0 : List UInt8 := dkwX2_roundOf_0 ++ []
theorem dksX2_roundOf_0 : cX2_roundOf.data.toList.drop 0 = dktX2_roundOf_0 := by decide +kernel
theorem dX2_roundOf_0 : decode cX2_roundOf 0 = .ok (.lload_n 2, 1) := dk_32 (dk_at dksX2_roundOf_0 0 rfl rfl)
theorem dX2_roundOf_1 : decode cX2_roundOf 1 = .ok (.lconst 0, 1) := dk_9 (dk_at dksX2_roundOf_0 1 rfl rfl)
theorem dX2_roundOf_2 : decode cX2_roundOf 2 = .ok (.lcmp, 1) := dk_148 (dk_at dksX2_roundOf_0 2 rfl rfl)
theorem dX2_roundOf_3 : decode cX2_roundOf 3 = .ok (.ifCond .gt 7, 3) := dk_157 0 7 (dk_at dksX2_roundOf_0 3 rfl rfl)
theorem dX2_roundOf_6 : decode cX2_roundOf 6 = .ok (.lconst 0, 1) := dk_9 (dk_at dksX2_roundOf_0 6 rfl rfl)
theorem dX2_roundOf_7 : decode cX2_roundOf 7 = .ok (.goto 10, 3) := dk_167 0 10 (dk_at dksX2_roundOf_0 7 rfl rfl)
theorem dX2_roundOf_10 : decode cX2_roundOf 10 = .ok (.lload_n 0, 1) := dk_30 (dk_at dksX2_roundOf_0 10 rfl rfl)
theorem dX2_roundOf_11 : decode cX2_roundOf 11 = .ok (.lload_n 2, 1) := dk_32 (dk_at dksX2_roundOf_0 11 rfl rfl)
theorem dX2_roundOf_12 : decode cX2_roundOf 12 = .ok (.lrem, 1) := dk_113 (dk_at dksX2_roundOf_0 12 rfl rfl)
theorem dX2_roundOf_13 : decode cX2_roundOf 13 = .ok (.lload_n 2, 1) := dk_32 (dk_at dksX2_roundOf_0 13 rfl rfl)
theorem dX2_roundOf_14 : decode cX2_roundOf 14 = .ok (.ladd, 1) := dk_97 (dk_at dksX2_roundOf_0 14 rfl rfl)
theorem dX2_roundOf_15 : decode cX2_roundOf 15 = .ok (.lload_n 2, 1) := dk_32 (dk_at dksX2_roundOf_0 15 rfl rfl)
theorem dX2_roundOf_16 : decode cX2_roundOf 16 = .ok (.lrem, 1) := dk_113 (dk_at dksX2_roundOf_0 16 rfl rfl)
theorem dX2_roundOf_17 : decode cX2_roundOf 17 = .ok (.lreturn, 1) := dk_173 (dk_at dksX2_roundOf_0 17 rfl rfl)
abbrev cX2_two : ByteArray := prog_20_method_56_code
def yX2_two : MethodName := ⟨RX2, "two", "(IJJ)J"⟩
def dkwX2_two_3 : List UInt8 := [154, 0, 7, 9, 167, 0, 9, 31, 33, 109, 184, 0, 253, 173]
abbrev dktX2_two_3 : List UInt8 := dkwX2_two_3 ++ []
def dkwX2_two_2 : List UInt8 := [31, 33, 97, 184, 0, 253, 173, 31, 33, 101, 184, 0, 253, 173, 31, 33, 105, 184, 0, 253, 173, 33, 9, 148]
abbrev dktX2_two_2 : List UInt8 := dkwX2_two_2 ++ dktX2_two_3
def dkwX2_two_1 : List UInt8 := [170, 0, 0, 0, 0, 0, 48, 0, 0, 0, 6, 0, 0, 0, 8, 0, 0, 0, 27, 0, 0, 0, 34, 0, 0, 0, 41]
abbrev dktX2_two_1 : List UInt8 := dkwX2_two_1 ++ dktX2_two_2
def dkwX2_two_0 : List UInt8 := [26]
abbrev dktX2_two_0 : List UInt8 := dkwX2_two_0 ++ dktX2_two_1
theorem dksX2_two_0 : cX2_two.data.toList.drop 0 = dktX2_two_0 := by decide +kernel
theorem dksX2_two_1 : cX2_two.data.toList.drop 1 = dktX2_two_1 := dk_seg dksX2_two_0 1 rfl rfl
theorem dksX2_two_2 : cX2_two.data.toList.drop 28 = dktX2_two_2 := dk_seg dksX2_two_1 27 rfl rfl
theorem dksX2_two_3 : cX2_two.data.toList.drop 52 = dktX2_two_3 := dk_seg dksX2_two_2 24 rfl rfl
theorem dX2_two_0 : decode cX2_two 0 = .ok (.iload_n 0, 1) := dk_26 (dk_at dksX2_two_0 0 rfl rfl)
theorem dX2_two_1 : decode cX2_two 1 = .ok (.tableswitch 48 6 8 #[27, 34, 41], 27) := by decide +kernel
theorem dX2_two_28 : decode cX2_two 28 = .ok (.lload_n 1, 1) := dk_31 (dk_at dksX2_two_2 0 rfl rfl)
theorem dX2_two_29 : decode cX2_two 29 = .ok (.lload_n 3, 1) := dk_33 (dk_at dksX2_two_2 1 rfl rfl)
theorem dX2_two_30 : decode cX2_two 30 = .ok (.ladd, 1) := dk_97 (dk_at dksX2_two_2 2 rfl rfl)
theorem dX2_two_31 : decode cX2_two 31 = .ok (.invokestatic 253, 3) := dk_184 0 253 (dk_at dksX2_two_2 3 rfl rfl)
theorem dX2_two_34 : decode cX2_two 34 = .ok (.lreturn, 1) := dk_173 (dk_at dksX2_two_2 6 rfl rfl)
theorem dX2_two_35 : decode cX2_two 35 = .ok (.lload_n 1, 1) := dk_31 (dk_at dksX2_two_2 7 rfl rfl)
theorem dX2_two_36 : decode cX2_two 36 = .ok (.lload_n 3, 1) := dk_33 (dk_at dksX2_two_2 8 rfl rfl)
theorem dX2_two_37 : decode cX2_two 37 = .ok (.lsub, 1) := dk_101 (dk_at dksX2_two_2 9 rfl rfl)
theorem dX2_two_38 : decode cX2_two 38 = .ok (.invokestatic 253, 3) := dk_184 0 253 (dk_at dksX2_two_2 10 rfl rfl)
theorem dX2_two_41 : decode cX2_two 41 = .ok (.lreturn, 1) := dk_173 (dk_at dksX2_two_2 13 rfl rfl)
theorem dX2_two_42 : decode cX2_two 42 = .ok (.lload_n 1, 1) := dk_31 (dk_at dksX2_two_2 14 rfl rfl)
theorem dX2_two_43 : decode cX2_two 43 = .ok (.lload_n 3, 1) := dk_33 (dk_at dksX2_two_2 15 rfl rfl)
theorem dX2_two_44 : decode cX2_two 44 = .ok (.lmul, 1) := dk_105 (dk_at dksX2_two_2 16 rfl rfl)
theorem dX2_two_45 : decode cX2_two 45 = .ok (.invokestatic 253, 3) := dk_184 0 253 (dk_at dksX2_two_2 17 rfl rfl)
theorem dX2_two_48 : decode cX2_two 48 = .ok (.lreturn, 1) := dk_173 (dk_at dksX2_two_2 20 rfl rfl)
theorem dX2_two_49 : decode cX2_two 49 = .ok (.lload_n 3, 1) := dk_33 (dk_at dksX2_two_2 21 rfl rfl)
theorem dX2_two_50 : decode cX2_two 50 = .ok (.lconst 0, 1) := dk_9 (dk_at dksX2_two_2 22 rfl rfl)
theorem dX2_two_51 : decode cX2_two 51 = .ok (.lcmp, 1) := dk_148 (dk_at dksX2_two_2 23 rfl rfl)
theorem dX2_two_52 : decode cX2_two 52 = .ok (.ifCond .ne 7, 3) := dk_154 0 7 (dk_at dksX2_two_3 0 rfl rfl)
theorem dX2_two_55 : decode cX2_two 55 = .ok (.lconst 0, 1) := dk_9 (dk_at dksX2_two_3 3 rfl rfl)
theorem dX2_two_56 : decode cX2_two 56 = .ok (.goto 9, 3) := dk_167 0 9 (dk_at dksX2_two_3 4 rfl rfl)
theorem dX2_two_59 : decode cX2_two 59 = .ok (.lload_n 1, 1) := dk_31 (dk_at dksX2_two_3 7 rfl rfl)
theorem dX2_two_60 : decode cX2_two 60 = .ok (.lload_n 3, 1) := dk_33 (dk_at dksX2_two_3 8 rfl rfl)
theorem dX2_two_61 : decode cX2_two 61 = .ok (.ldiv, 1) := dk_109 (dk_at dksX2_two_3 9 rfl rfl)
theorem dX2_two_62 : decode cX2_two 62 = .ok (.invokestatic 253, 3) := dk_184 0 253 (dk_at dksX2_two_3 10 rfl rfl)
theorem dX2_two_65 : decode cX2_two 65 = .ok (.lreturn, 1) := dk_173 (dk_at dksX2_two_3 13 rfl rfl)
abbrev cX2_clip : ByteArray := prog_20_method_55_code
def yX2_clip : MethodName := ⟨RX2, "clip", "(J)J"⟩
def dkwX2_clip_1 : List UInt8 := [20, 0, 251, 167, 0, 4, 30, 173]
abbrev dktX2_clip_1 : List UInt8 := dkwX2_clip_1 ++ []
def dkwX2_clip_0 : List UInt8 := [30, 20, 0, 249, 148, 158, 0, 9, 20, 0, 249, 167, 0, 18, 30, 20, 0, 251, 148, 156, 0, 9]
abbrev dktX2_clip_0 : List UInt8 := dkwX2_clip_0 ++ dktX2_clip_1
theorem dksX2_clip_0 : cX2_clip.data.toList.drop 0 = dktX2_clip_0 := by decide +kernel
theorem dksX2_clip_1 : cX2_clip.data.toList.drop 22 = dktX2_clip_1 := dk_seg dksX2_clip_0 22 rfl rfl
theorem dX2_clip_0 : decode cX2_clip 0 = .ok (.lload_n 0, 1) := dk_30 (dk_at dksX2_clip_0 0 rfl rfl)
theorem dX2_clip_1 : decode cX2_clip 1 = .ok (.ldc2_w 249, 3) := dk_20 0 249 (dk_at dksX2_clip_0 1 rfl rfl)
theorem dX2_clip_4 : decode cX2_clip 4 = .ok (.lcmp, 1) := dk_148 (dk_at dksX2_clip_0 4 rfl rfl)
theorem dX2_clip_5 : decode cX2_clip 5 = .ok (.ifCond .le 9, 3) := dk_158 0 9 (dk_at dksX2_clip_0 5 rfl rfl)
theorem dX2_clip_8 : decode cX2_clip 8 = .ok (.ldc2_w 249, 3) := dk_20 0 249 (dk_at dksX2_clip_0 8 rfl rfl)
theorem dX2_clip_11 : decode cX2_clip 11 = .ok (.goto 18, 3) := dk_167 0 18 (dk_at dksX2_clip_0 11 rfl rfl)
theorem dX2_clip_14 : decode cX2_clip 14 = .ok (.lload_n 0, 1) := dk_30 (dk_at dksX2_clip_0 14 rfl rfl)
theorem dX2_clip_15 : decode cX2_clip 15 = .ok (.ldc2_w 251, 3) := dk_20 0 251 (dk_at dksX2_clip_0 15 rfl rfl)
theorem dX2_clip_18 : decode cX2_clip 18 = .ok (.lcmp, 1) := dk_148 (dk_at dksX2_clip_0 18 rfl rfl)
theorem dX2_clip_19 : decode cX2_clip 19 = .ok (.ifCond .ge 9, 3) := dk_156 0 9 (dk_at dksX2_clip_0 19 rfl rfl)
theorem dX2_clip_22 : decode cX2_clip 22 = .ok (.ldc2_w 251, 3) := dk_20 0 251 (dk_at dksX2_clip_1 0 rfl rfl)
theorem dX2_clip_25 : decode cX2_clip 25 = .ok (.goto 4, 3) := dk_167 0 4 (dk_at dksX2_clip_1 3 rfl rfl)
theorem dX2_clip_28 : decode cX2_clip 28 = .ok (.lload_n 0, 1) := dk_30 (dk_at dksX2_clip_1 6 rfl rfl)
theorem dX2_clip_29 : decode cX2_clip 29 = .ok (.lreturn, 1) := dk_173 (dk_at dksX2_clip_1 7 rfl rfl)
abbrev cX2_isAsked : ByteArray := prog_20_method_57_code
def yX2_isAsked : MethodName := ⟨RX2, "isAsked", "(IJJ)Z"⟩
def dkwX2_isAsked_4 : List UInt8 := [167, 0, 18, 3, 167, 0, 14, 31, 33, 148, 153, 0, 7, 4, 167, 0, 4, 3, 172]
abbrev dktX2_isAsked_4 : List UInt8 := dkwX2_isAsked_4 ++ []
def dkwX2_isAsked_3 : List UInt8 := [155, 0, 7, 4, 167, 0, 38, 3, 167, 0, 34, 26, 16, 14, 160, 0, 17, 31, 33, 148, 154, 0, 7, 4]
abbrev dktX2_isAsked_3 : List UInt8 := dkwX2_isAsked_3 ++ dktX2_isAsked_4
def dkwX2_isAsked_2 : List UInt8 := [33, 148, 158, 0, 7, 4, 167, 0, 58, 3, 167, 0, 54, 26, 16, 13, 160, 0, 17, 31, 33, 148]
abbrev dktX2_isAsked_2 : List UInt8 := dkwX2_isAsked_2 ++ dktX2_isAsked_3
def dkwX2_isAsked_1 : List UInt8 := [160, 0, 17, 31, 33, 148, 157, 0, 7, 4, 167, 0, 78, 3, 167, 0, 74, 26, 16, 12, 160, 0, 17, 31]
abbrev dktX2_isAsked_1 : List UInt8 := dkwX2_isAsked_1 ++ dktX2_isAsked_2
def dkwX2_isAsked_0 : List UInt8 := [26, 16, 10, 160, 0, 17, 31, 33, 148, 156, 0, 7, 4, 167, 0, 98, 3, 167, 0, 94, 26, 16, 11]
abbrev dktX2_isAsked_0 : List UInt8 := dkwX2_isAsked_0 ++ dktX2_isAsked_1
theorem dksX2_isAsked_0 : cX2_isAsked.data.toList.drop 0 = dktX2_isAsked_0 := by decide +kernel
theorem dksX2_isAsked_1 : cX2_isAsked.data.toList.drop 23 = dktX2_isAsked_1 := dk_seg dksX2_isAsked_0 23 rfl rfl
theorem dksX2_isAsked_2 : cX2_isAsked.data.toList.drop 47 = dktX2_isAsked_2 := dk_seg dksX2_isAsked_1 24 rfl rfl
theorem dksX2_isAsked_3 : cX2_isAsked.data.toList.drop 69 = dktX2_isAsked_3 := dk_seg dksX2_isAsked_2 22 rfl rfl
theorem dksX2_isAsked_4 : cX2_isAsked.data.toList.drop 93 = dktX2_isAsked_4 := dk_seg dksX2_isAsked_3 24 rfl rfl
theorem dX2_isAsked_0 : decode cX2_isAsked 0 = .ok (.iload_n 0, 1) := dk_26 (dk_at dksX2_isAsked_0 0 rfl rfl)
theorem dX2_isAsked_1 : decode cX2_isAsked 1 = .ok (.bipush 10, 2) := dk_16 10 (dk_at dksX2_isAsked_0 1 rfl rfl)
theorem dX2_isAsked_3 : decode cX2_isAsked 3 = .ok (.if_icmp .ne 17, 3) := dk_160 0 17 (dk_at dksX2_isAsked_0 3 rfl rfl)
theorem dX2_isAsked_6 : decode cX2_isAsked 6 = .ok (.lload_n 1, 1) := dk_31 (dk_at dksX2_isAsked_0 6 rfl rfl)
theorem dX2_isAsked_7 : decode cX2_isAsked 7 = .ok (.lload_n 3, 1) := dk_33 (dk_at dksX2_isAsked_0 7 rfl rfl)
theorem dX2_isAsked_8 : decode cX2_isAsked 8 = .ok (.lcmp, 1) := dk_148 (dk_at dksX2_isAsked_0 8 rfl rfl)
theorem dX2_isAsked_9 : decode cX2_isAsked 9 = .ok (.ifCond .ge 7, 3) := dk_156 0 7 (dk_at dksX2_isAsked_0 9 rfl rfl)
theorem dX2_isAsked_12 : decode cX2_isAsked 12 = .ok (.iconst 1, 1) := dk_4 (dk_at dksX2_isAsked_0 12 rfl rfl)
theorem dX2_isAsked_13 : decode cX2_isAsked 13 = .ok (.goto 98, 3) := dk_167 0 98 (dk_at dksX2_isAsked_0 13 rfl rfl)
theorem dX2_isAsked_16 : decode cX2_isAsked 16 = .ok (.iconst 0, 1) := dk_3 (dk_at dksX2_isAsked_0 16 rfl rfl)
theorem dX2_isAsked_17 : decode cX2_isAsked 17 = .ok (.goto 94, 3) := dk_167 0 94 (dk_at dksX2_isAsked_0 17 rfl rfl)
theorem dX2_isAsked_20 : decode cX2_isAsked 20 = .ok (.iload_n 0, 1) := dk_26 (dk_at dksX2_isAsked_0 20 rfl rfl)
theorem dX2_isAsked_21 : decode cX2_isAsked 21 = .ok (.bipush 11, 2) := dk_16 11 (dk_at dksX2_isAsked_0 21 rfl rfl)
theorem dX2_isAsked_23 : decode cX2_isAsked 23 = .ok (.if_icmp .ne 17, 3) := dk_160 0 17 (dk_at dksX2_isAsked_1 0 rfl rfl)
theorem dX2_isAsked_26 : decode cX2_isAsked 26 = .ok (.lload_n 1, 1) := dk_31 (dk_at dksX2_isAsked_1 3 rfl rfl)
theorem dX2_isAsked_27 : decode cX2_isAsked 27 = .ok (.lload_n 3, 1) := dk_33 (dk_at dksX2_isAsked_1 4 rfl rfl)
theorem dX2_isAsked_28 : decode cX2_isAsked 28 = .ok (.lcmp, 1) := dk_148 (dk_at dksX2_isAsked_1 5 rfl rfl)
theorem dX2_isAsked_29 : decode cX2_isAsked 29 = .ok (.ifCond .gt 7, 3) := dk_157 0 7 (dk_at dksX2_isAsked_1 6 rfl rfl)
theorem dX2_isAsked_32 : decode cX2_isAsked 32 = .ok (.iconst 1, 1) := dk_4 (dk_at dksX2_isAsked_1 9 rfl rfl)
theorem dX2_isAsked_33 : decode cX2_isAsked 33 = .ok (.goto 78, 3) := dk_167 0 78 (dk_at dksX2_isAsked_1 10 rfl rfl)
theorem dX2_isAsked_36 : decode cX2_isAsked 36 = .ok (.iconst 0, 1) := dk_3 (dk_at dksX2_isAsked_1 13 rfl rfl)
theorem dX2_isAsked_37 : decode cX2_isAsked 37 = .ok (.goto 74, 3) := dk_167 0 74 (dk_at dksX2_isAsked_1 14 rfl rfl)
theorem dX2_isAsked_40 : decode cX2_isAsked 40 = .ok (.iload_n 0, 1) := dk_26 (dk_at dksX2_isAsked_1 17 rfl rfl)
theorem dX2_isAsked_41 : decode cX2_isAsked 41 = .ok (.bipush 12, 2) := dk_16 12 (dk_at dksX2_isAsked_1 18 rfl rfl)
theorem dX2_isAsked_43 : decode cX2_isAsked 43 = .ok (.if_icmp .ne 17, 3) := dk_160 0 17 (dk_at dksX2_isAsked_1 20 rfl rfl)
theorem dX2_isAsked_46 : decode cX2_isAsked 46 = .ok (.lload_n 1, 1) := dk_31 (dk_at dksX2_isAsked_1 23 rfl rfl)
theorem dX2_isAsked_47 : decode cX2_isAsked 47 = .ok (.lload_n 3, 1) := dk_33 (dk_at dksX2_isAsked_2 0 rfl rfl)
theorem dX2_isAsked_48 : decode cX2_isAsked 48 = .ok (.lcmp, 1) := dk_148 (dk_at dksX2_isAsked_2 1 rfl rfl)
theorem dX2_isAsked_49 : decode cX2_isAsked 49 = .ok (.ifCond .le 7, 3) := dk_158 0 7 (dk_at dksX2_isAsked_2 2 rfl rfl)
theorem dX2_isAsked_52 : decode cX2_isAsked 52 = .ok (.iconst 1, 1) := dk_4 (dk_at dksX2_isAsked_2 5 rfl rfl)
theorem dX2_isAsked_53 : decode cX2_isAsked 53 = .ok (.goto 58, 3) := dk_167 0 58 (dk_at dksX2_isAsked_2 6 rfl rfl)
theorem dX2_isAsked_56 : decode cX2_isAsked 56 = .ok (.iconst 0, 1) := dk_3 (dk_at dksX2_isAsked_2 9 rfl rfl)
theorem dX2_isAsked_57 : decode cX2_isAsked 57 = .ok (.goto 54, 3) := dk_167 0 54 (dk_at dksX2_isAsked_2 10 rfl rfl)
theorem dX2_isAsked_60 : decode cX2_isAsked 60 = .ok (.iload_n 0, 1) := dk_26 (dk_at dksX2_isAsked_2 13 rfl rfl)
theorem dX2_isAsked_61 : decode cX2_isAsked 61 = .ok (.bipush 13, 2) := dk_16 13 (dk_at dksX2_isAsked_2 14 rfl rfl)
theorem dX2_isAsked_63 : decode cX2_isAsked 63 = .ok (.if_icmp .ne 17, 3) := dk_160 0 17 (dk_at dksX2_isAsked_2 16 rfl rfl)
theorem dX2_isAsked_66 : decode cX2_isAsked 66 = .ok (.lload_n 1, 1) := dk_31 (dk_at dksX2_isAsked_2 19 rfl rfl)
theorem dX2_isAsked_67 : decode cX2_isAsked 67 = .ok (.lload_n 3, 1) := dk_33 (dk_at dksX2_isAsked_2 20 rfl rfl)
theorem dX2_isAsked_68 : decode cX2_isAsked 68 = .ok (.lcmp, 1) := dk_148 (dk_at dksX2_isAsked_2 21 rfl rfl)
theorem dX2_isAsked_69 : decode cX2_isAsked 69 = .ok (.ifCond .lt 7, 3) := dk_155 0 7 (dk_at dksX2_isAsked_3 0 rfl rfl)
theorem dX2_isAsked_72 : decode cX2_isAsked 72 = .ok (.iconst 1, 1) := dk_4 (dk_at dksX2_isAsked_3 3 rfl rfl)
theorem dX2_isAsked_73 : decode cX2_isAsked 73 = .ok (.goto 38, 3) := dk_167 0 38 (dk_at dksX2_isAsked_3 4 rfl rfl)
theorem dX2_isAsked_76 : decode cX2_isAsked 76 = .ok (.iconst 0, 1) := dk_3 (dk_at dksX2_isAsked_3 7 rfl rfl)
theorem dX2_isAsked_77 : decode cX2_isAsked 77 = .ok (.goto 34, 3) := dk_167 0 34 (dk_at dksX2_isAsked_3 8 rfl rfl)
theorem dX2_isAsked_80 : decode cX2_isAsked 80 = .ok (.iload_n 0, 1) := dk_26 (dk_at dksX2_isAsked_3 11 rfl rfl)
theorem dX2_isAsked_81 : decode cX2_isAsked 81 = .ok (.bipush 14, 2) := dk_16 14 (dk_at dksX2_isAsked_3 12 rfl rfl)
theorem dX2_isAsked_83 : decode cX2_isAsked 83 = .ok (.if_icmp .ne 17, 3) := dk_160 0 17 (dk_at dksX2_isAsked_3 14 rfl rfl)
theorem dX2_isAsked_86 : decode cX2_isAsked 86 = .ok (.lload_n 1, 1) := dk_31 (dk_at dksX2_isAsked_3 17 rfl rfl)
theorem dX2_isAsked_87 : decode cX2_isAsked 87 = .ok (.lload_n 3, 1) := dk_33 (dk_at dksX2_isAsked_3 18 rfl rfl)
theorem dX2_isAsked_88 : decode cX2_isAsked 88 = .ok (.lcmp, 1) := dk_148 (dk_at dksX2_isAsked_3 19 rfl rfl)
theorem dX2_isAsked_89 : decode cX2_isAsked 89 = .ok (.ifCond .ne 7, 3) := dk_154 0 7 (dk_at dksX2_isAsked_3 20 rfl rfl)
theorem dX2_isAsked_92 : decode cX2_isAsked 92 = .ok (.iconst 1, 1) := dk_4 (dk_at dksX2_isAsked_3 23 rfl rfl)
theorem dX2_isAsked_93 : decode cX2_isAsked 93 = .ok (.goto 18, 3) := dk_167 0 18 (dk_at dksX2_isAsked_4 0 rfl rfl)
theorem dX2_isAsked_96 : decode cX2_isAsked 96 = .ok (.iconst 0, 1) := dk_3 (dk_at dksX2_isAsked_4 3 rfl rfl)
theorem dX2_isAsked_97 : decode cX2_isAsked 97 = .ok (.goto 14, 3) := dk_167 0 14 (dk_at dksX2_isAsked_4 4 rfl rfl)
theorem dX2_isAsked_100 : decode cX2_isAsked 100 = .ok (.lload_n 1, 1) := dk_31 (dk_at dksX2_isAsked_4 7 rfl rfl)
theorem dX2_isAsked_101 : decode cX2_isAsked 101 = .ok (.lload_n 3, 1) := dk_33 (dk_at dksX2_isAsked_4 8 rfl rfl)
theorem dX2_isAsked_102 : decode cX2_isAsked 102 = .ok (.lcmp, 1) := dk_148 (dk_at dksX2_isAsked_4 9 rfl rfl)
theorem dX2_isAsked_103 : decode cX2_isAsked 103 = .ok (.ifCond .eq 7, 3) := dk_153 0 7 (dk_at dksX2_isAsked_4 10 rfl rfl)
theorem dX2_isAsked_106 : decode cX2_isAsked 106 = .ok (.iconst 1, 1) := dk_4 (dk_at dksX2_isAsked_4 13 rfl rfl)
theorem dX2_isAsked_107 : decode cX2_isAsked 107 = .ok (.goto 4, 3) := dk_167 0 4 (dk_at dksX2_isAsked_4 14 rfl rfl)
theorem dX2_isAsked_110 : decode cX2_isAsked 110 = .ok (.iconst 0, 1) := dk_3 (dk_at dksX2_isAsked_4 17 rfl rfl)
theorem dX2_isAsked_111 : decode cX2_isAsked 111 = .ok (.ireturn, 1) := dk_172 (dk_at dksX2_isAsked_4 18 rfl rfl)
abbrev cX2_joined : ByteArray := prog_20_method_60_code
def yX2_joined : MethodName := ⟨RX2, "joined", "(IZZ)Z"⟩
def dkwX2_joined_1 : List UInt8 := [154, 0, 7, 28, 153, 0, 7, 4, 167, 0, 4, 3, 172]
abbrev dktX2_joined_1 : List UInt8 := dkwX2_joined_1 ++ []
def dkwX2_joined_0 : List UInt8 := [26, 16, 21, 160, 0, 19, 27, 153, 0, 11, 28, 153, 0, 7, 4, 167, 0, 20, 3, 167, 0, 16, 27]
abbrev dktX2_joined_0 : List UInt8 := dkwX2_joined_0 ++ dktX2_joined_1
theorem dksX2_joined_0 : cX2_joined.data.toList.drop 0 = dktX2_joined_0 := by decide +kernel
theorem dksX2_joined_1 : cX2_joined.data.toList.drop 23 = dktX2_joined_1 := dk_seg dksX2_joined_0 23 rfl rfl
theorem dX2_joined_0 : decode cX2_joined 0 = .ok (.iload_n 0, 1) := dk_26 (dk_at dksX2_joined_0 0 rfl rfl)
theorem dX2_joined_1 : decode cX2_joined 1 = .ok (.bipush 21, 2) := dk_16 21 (dk_at dksX2_joined_0 1 rfl rfl)
theorem dX2_joined_3 : decode cX2_joined 3 = .ok (.if_icmp .ne 19, 3) := dk_160 0 19 (dk_at dksX2_joined_0 3 rfl rfl)
theorem dX2_joined_6 : decode cX2_joined 6 = .ok (.iload_n 1, 1) := dk_27 (dk_at dksX2_joined_0 6 rfl rfl)
theorem dX2_joined_7 : decode cX2_joined 7 = .ok (.ifCond .eq 11, 3) := dk_153 0 11 (dk_at dksX2_joined_0 7 rfl rfl)
theorem dX2_joined_10 : decode cX2_joined 10 = .ok (.iload_n 2, 1) := dk_28 (dk_at dksX2_joined_0 10 rfl rfl)
theorem dX2_joined_11 : decode cX2_joined 11 = .ok (.ifCond .eq 7, 3) := dk_153 0 7 (dk_at dksX2_joined_0 11 rfl rfl)
theorem dX2_joined_14 : decode cX2_joined 14 = .ok (.iconst 1, 1) := dk_4 (dk_at dksX2_joined_0 14 rfl rfl)
theorem dX2_joined_15 : decode cX2_joined 15 = .ok (.goto 20, 3) := dk_167 0 20 (dk_at dksX2_joined_0 15 rfl rfl)
theorem dX2_joined_18 : decode cX2_joined 18 = .ok (.iconst 0, 1) := dk_3 (dk_at dksX2_joined_0 18 rfl rfl)
theorem dX2_joined_19 : decode cX2_joined 19 = .ok (.goto 16, 3) := dk_167 0 16 (dk_at dksX2_joined_0 19 rfl rfl)
theorem dX2_joined_22 : decode cX2_joined 22 = .ok (.iload_n 1, 1) := dk_27 (dk_at dksX2_joined_0 22 rfl rfl)
theorem dX2_joined_23 : decode cX2_joined 23 = .ok (.ifCond .ne 7, 3) := dk_154 0 7 (dk_at dksX2_joined_1 0 rfl rfl)
theorem dX2_joined_26 : decode cX2_joined 26 = .ok (.iload_n 2, 1) := dk_28 (dk_at dksX2_joined_1 3 rfl rfl)
theorem dX2_joined_27 : decode cX2_joined 27 = .ok (.ifCond .eq 7, 3) := dk_153 0 7 (dk_at dksX2_joined_1 4 rfl rfl)
theorem dX2_joined_30 : decode cX2_joined 30 = .ok (.iconst 1, 1) := dk_4 (dk_at dksX2_joined_1 7 rfl rfl)
theorem dX2_joined_31 : decode cX2_joined 31 = .ok (.goto 4, 3) := dk_167 0 4 (dk_at dksX2_joined_1 8 rfl rfl)
theorem dX2_joined_34 : decode cX2_joined 34 = .ok (.iconst 0, 1) := dk_3 (dk_at dksX2_joined_1 11 rfl rfl)
theorem dX2_joined_35 : decode cX2_joined 35 = .ok (.ireturn, 1) := dk_172 (dk_at dksX2_joined_1 12 rfl rfl)
abbrev cX2_held : ByteArray := prog_20_method_4_code
def yX2_held : MethodName := ⟨RX2, "held", "(JII)I"⟩
def dkwX2_held_1 : List UInt8 := [172]
abbrev dktX2_held_1 : List UInt8 := dkwX2_held_1 ++ []
def dkwX2_held_0 : List UInt8 := [30, 28, 133, 148, 156, 0, 7, 28, 167, 0, 16, 30, 29, 133, 148, 158, 0, 7, 29, 167, 0, 5, 30, 136]
abbrev dktX2_held_0 : List UInt8 := dkwX2_held_0 ++ dktX2_held_1
theorem dksX2_held_0 : cX2_held.data.toList.drop 0 = dktX2_held_0 := by decide +kernel
theorem dksX2_held_1 : cX2_held.data.toList.drop 24 = dktX2_held_1 := dk_seg dksX2_held_0 24 rfl rfl
theorem dX2_held_0 : decode cX2_held 0 = .ok (.lload_n 0, 1) := dk_30 (dk_at dksX2_held_0 0 rfl rfl)
theorem dX2_held_1 : decode cX2_held 1 = .ok (.iload_n 2, 1) := dk_28 (dk_at dksX2_held_0 1 rfl rfl)
theorem dX2_held_2 : decode cX2_held 2 = .ok (.i2l, 1) := dk_133 (dk_at dksX2_held_0 2 rfl rfl)
theorem dX2_held_3 : decode cX2_held 3 = .ok (.lcmp, 1) := dk_148 (dk_at dksX2_held_0 3 rfl rfl)
theorem dX2_held_4 : decode cX2_held 4 = .ok (.ifCond .ge 7, 3) := dk_156 0 7 (dk_at dksX2_held_0 4 rfl rfl)
theorem dX2_held_7 : decode cX2_held 7 = .ok (.iload_n 2, 1) := dk_28 (dk_at dksX2_held_0 7 rfl rfl)
theorem dX2_held_8 : decode cX2_held 8 = .ok (.goto 16, 3) := dk_167 0 16 (dk_at dksX2_held_0 8 rfl rfl)
theorem dX2_held_11 : decode cX2_held 11 = .ok (.lload_n 0, 1) := dk_30 (dk_at dksX2_held_0 11 rfl rfl)
theorem dX2_held_12 : decode cX2_held 12 = .ok (.iload_n 3, 1) := dk_29 (dk_at dksX2_held_0 12 rfl rfl)
theorem dX2_held_13 : decode cX2_held 13 = .ok (.i2l, 1) := dk_133 (dk_at dksX2_held_0 13 rfl rfl)
theorem dX2_held_14 : decode cX2_held 14 = .ok (.lcmp, 1) := dk_148 (dk_at dksX2_held_0 14 rfl rfl)
theorem dX2_held_15 : decode cX2_held 15 = .ok (.ifCond .le 7, 3) := dk_158 0 7 (dk_at dksX2_held_0 15 rfl rfl)
theorem dX2_held_18 : decode cX2_held 18 = .ok (.iload_n 3, 1) := dk_29 (dk_at dksX2_held_0 18 rfl rfl)
theorem dX2_held_19 : decode cX2_held 19 = .ok (.goto 5, 3) := dk_167 0 5 (dk_at dksX2_held_0 19 rfl rfl)
theorem dX2_held_22 : decode cX2_held 22 = .ok (.lload_n 0, 1) := dk_30 (dk_at dksX2_held_0 22 rfl rfl)
theorem dX2_held_23 : decode cX2_held 23 = .ok (.l2i, 1) := dk_136 (dk_at dksX2_held_0 23 rfl rfl)
theorem dX2_held_24 : decode cX2_held 24 = .ok (.ireturn, 1) := dk_172 (dk_at dksX2_held_1 0 rfl rfl)
abbrev cX2_drawnBy : ByteArray := prog_20_method_67_code
def yX2_drawnBy : MethodName := ⟨RX2, "drawnBy", "(I)I"⟩
def dkwX2_drawnBy_0 : List UInt8 := [42, 180, 0, 7, 16, 7, 46, 27, 112, 61, 42, 182, 1, 35, 28, 172]
abbrev dktX2_drawnBy_0 : List UInt8 := dkwX2_drawnBy_0 ++ []
theorem dksX2_drawnBy_0 : cX2_drawnBy.data.toList.drop 0 = dktX2_drawnBy_0 := by decide +kernel
theorem dX2_drawnBy_0 : decode cX2_drawnBy 0 = .ok (.aload_n 0, 1) := dk_42 (dk_at dksX2_drawnBy_0 0 rfl rfl)
theorem dX2_drawnBy_1 : decode cX2_drawnBy 1 = .ok (.getfield 7, 3) := dk_180 0 7 (dk_at dksX2_drawnBy_0 1 rfl rfl)
theorem dX2_drawnBy_4 : decode cX2_drawnBy 4 = .ok (.bipush 7, 2) := dk_16 7 (dk_at dksX2_drawnBy_0 4 rfl rfl)
theorem dX2_drawnBy_6 : decode cX2_drawnBy 6 = .ok (.iaload, 1) := dk_46 (dk_at dksX2_drawnBy_0 6 rfl rfl)
theorem dX2_drawnBy_7 : decode cX2_drawnBy 7 = .ok (.iload_n 1, 1) := dk_27 (dk_at dksX2_drawnBy_0 7 rfl rfl)
theorem dX2_drawnBy_8 : decode cX2_drawnBy 8 = .ok (.irem, 1) := dk_112 (dk_at dksX2_drawnBy_0 8 rfl rfl)
theorem dX2_drawnBy_9 : decode cX2_drawnBy 9 = .ok (.istore_n 2, 1) := dk_61 (dk_at dksX2_drawnBy_0 9 rfl rfl)
theorem dX2_drawnBy_10 : decode cX2_drawnBy 10 = .ok (.aload_n 0, 1) := dk_42 (dk_at dksX2_drawnBy_0 10 rfl rfl)
theorem dX2_drawnBy_11 : decode cX2_drawnBy 11 = .ok (.invokevirtual 291, 3) := dk_182 1 35 (dk_at dksX2_drawnBy_0 11 rfl rfl)
theorem dX2_drawnBy_14 : decode cX2_drawnBy 14 = .ok (.iload_n 2, 1) := dk_28 (dk_at dksX2_drawnBy_0 14 rfl rfl)
theorem dX2_drawnBy_15 : decode cX2_drawnBy 15 = .ok (.ireturn, 1) := dk_172 (dk_at dksX2_drawnBy_0 15 rfl rfl)
abbrev cX2_anew : ByteArray := prog_20_method_68_code
def yX2_anew : MethodName := ⟨RX2, "anew", "()V"⟩
def dkwX2_anew_1 : List UInt8 := [20, 1, 42, 113, 136, 79, 177]
abbrev dktX2_anew_1 : List UInt8 := dkwX2_anew_1 ++ []
def dkwX2_anew_0 : List UInt8 := [42, 180, 0, 7, 16, 7, 42, 180, 0, 7, 16, 7, 46, 133, 20, 1, 38, 105, 20, 1, 40, 97]
abbrev dktX2_anew_0 : List UInt8 := dkwX2_anew_0 ++ dktX2_anew_1
theorem dksX2_anew_0 : cX2_anew.data.toList.drop 0 = dktX2_anew_0 := by decide +kernel
theorem dksX2_anew_1 : cX2_anew.data.toList.drop 22 = dktX2_anew_1 := dk_seg dksX2_anew_0 22 rfl rfl
theorem dX2_anew_0 : decode cX2_anew 0 = .ok (.aload_n 0, 1) := dk_42 (dk_at dksX2_anew_0 0 rfl rfl)
theorem dX2_anew_1 : decode cX2_anew 1 = .ok (.getfield 7, 3) := dk_180 0 7 (dk_at dksX2_anew_0 1 rfl rfl)
theorem dX2_anew_4 : decode cX2_anew 4 = .ok (.bipush 7, 2) := dk_16 7 (dk_at dksX2_anew_0 4 rfl rfl)
theorem dX2_anew_6 : decode cX2_anew 6 = .ok (.aload_n 0, 1) := dk_42 (dk_at dksX2_anew_0 6 rfl rfl)
theorem dX2_anew_7 : decode cX2_anew 7 = .ok (.getfield 7, 3) := dk_180 0 7 (dk_at dksX2_anew_0 7 rfl rfl)
theorem dX2_anew_10 : decode cX2_anew 10 = .ok (.bipush 7, 2) := dk_16 7 (dk_at dksX2_anew_0 10 rfl rfl)
theorem dX2_anew_12 : decode cX2_anew 12 = .ok (.iaload, 1) := dk_46 (dk_at dksX2_anew_0 12 rfl rfl)
theorem dX2_anew_13 : decode cX2_anew 13 = .ok (.i2l, 1) := dk_133 (dk_at dksX2_anew_0 13 rfl rfl)
theorem dX2_anew_14 : decode cX2_anew 14 = .ok (.ldc2_w 294, 3) := dk_20 1 38 (dk_at dksX2_anew_0 14 rfl rfl)
theorem dX2_anew_17 : decode cX2_anew 17 = .ok (.lmul, 1) := dk_105 (dk_at dksX2_anew_0 17 rfl rfl)
theorem dX2_anew_18 : decode cX2_anew 18 = .ok (.ldc2_w 296, 3) := dk_20 1 40 (dk_at dksX2_anew_0 18 rfl rfl)
theorem dX2_anew_21 : decode cX2_anew 21 = .ok (.ladd, 1) := dk_97 (dk_at dksX2_anew_0 21 rfl rfl)
theorem dX2_anew_22 : decode cX2_anew 22 = .ok (.ldc2_w 298, 3) := dk_20 1 42 (dk_at dksX2_anew_1 0 rfl rfl)
theorem dX2_anew_25 : decode cX2_anew 25 = .ok (.lrem, 1) := dk_113 (dk_at dksX2_anew_1 3 rfl rfl)
theorem dX2_anew_26 : decode cX2_anew 26 = .ok (.l2i, 1) := dk_136 (dk_at dksX2_anew_1 4 rfl rfl)
theorem dX2_anew_27 : decode cX2_anew 27 = .ok (.iastore, 1) := dk_79 (dk_at dksX2_anew_1 5 rfl rfl)
theorem dX2_anew_28 : decode cX2_anew 28 = .ok (.return_, 1) := dk_177 (dk_at dksX2_anew_1 6 rfl rfl)
abbrev cX2_write : ByteArray := prog_20_method_66_code
def yX2_write : MethodName := ⟨RX2, "write", "(II)V"⟩
def dkwX2_write_5 : List UInt8 := [16, 8, 92, 46, 4, 96, 79, 177]
abbrev dktX2_write_5 : List UInt8 := dkwX2_write_5 ++ []
def dkwX2_write_4 : List UInt8 := [16, 30, 104, 28, 96, 16, 61, 104, 42, 180, 0, 7, 16, 69, 27, 96, 46, 96, 79, 42, 180, 0, 7]
abbrev dktX2_write_4 : List UInt8 := dkwX2_write_4 ++ dktX2_write_5
def dkwX2_write_3 : List UInt8 := [17, 12, 103, 42, 180, 0, 7, 16, 8, 46, 96, 42, 180, 0, 7, 16, 6, 46, 16, 7, 104, 27, 96]
abbrev dktX2_write_3 : List UInt8 := dkwX2_write_3 ++ dktX2_write_4
def dkwX2_write_2 : List UInt8 := [96, 46, 79, 132, 3, 1, 167, 255, 225, 42, 180, 0, 7, 16, 8, 92, 46, 4, 100, 79, 42, 180, 0, 7]
abbrev dktX2_write_2 : List UInt8 := dkwX2_write_2 ++ dktX2_write_3
def dkwX2_write_1 : List UInt8 := [16, 30, 162, 0, 31, 42, 180, 0, 7, 17, 12, 103, 29, 96, 4, 100, 42, 180, 0, 7, 17, 12, 103, 29]
abbrev dktX2_write_1 : List UInt8 := dkwX2_write_1 ++ dktX2_write_2
def dkwX2_write_0 : List UInt8 := [42, 180, 0, 43, 154, 0, 4, 177, 42, 180, 0, 7, 16, 8, 46, 16, 30, 160, 0, 50, 4, 62, 29]
abbrev dktX2_write_0 : List UInt8 := dkwX2_write_0 ++ dktX2_write_1
theorem dksX2_write_0 : cX2_write.data.toList.drop 0 = dktX2_write_0 := by decide +kernel
theorem dksX2_write_1 : cX2_write.data.toList.drop 23 = dktX2_write_1 := dk_seg dksX2_write_0 23 rfl rfl
theorem dksX2_write_2 : cX2_write.data.toList.drop 47 = dktX2_write_2 := dk_seg dksX2_write_1 24 rfl rfl
theorem dksX2_write_3 : cX2_write.data.toList.drop 71 = dktX2_write_3 := dk_seg dksX2_write_2 24 rfl rfl
theorem dksX2_write_4 : cX2_write.data.toList.drop 94 = dktX2_write_4 := dk_seg dksX2_write_3 23 rfl rfl
theorem dksX2_write_5 : cX2_write.data.toList.drop 117 = dktX2_write_5 := dk_seg dksX2_write_4 23 rfl rfl
theorem dX2_write_0 : decode cX2_write 0 = .ok (.aload_n 0, 1) := dk_42 (dk_at dksX2_write_0 0 rfl rfl)
theorem dX2_write_1 : decode cX2_write 1 = .ok (.getfield 43, 3) := dk_180 0 43 (dk_at dksX2_write_0 1 rfl rfl)
theorem dX2_write_4 : decode cX2_write 4 = .ok (.ifCond .ne 4, 3) := dk_154 0 4 (dk_at dksX2_write_0 4 rfl rfl)
theorem dX2_write_7 : decode cX2_write 7 = .ok (.return_, 1) := dk_177 (dk_at dksX2_write_0 7 rfl rfl)
theorem dX2_write_8 : decode cX2_write 8 = .ok (.aload_n 0, 1) := dk_42 (dk_at dksX2_write_0 8 rfl rfl)
theorem dX2_write_9 : decode cX2_write 9 = .ok (.getfield 7, 3) := dk_180 0 7 (dk_at dksX2_write_0 9 rfl rfl)
theorem dX2_write_12 : decode cX2_write 12 = .ok (.bipush 8, 2) := dk_16 8 (dk_at dksX2_write_0 12 rfl rfl)
theorem dX2_write_14 : decode cX2_write 14 = .ok (.iaload, 1) := dk_46 (dk_at dksX2_write_0 14 rfl rfl)
theorem dX2_write_15 : decode cX2_write 15 = .ok (.bipush 30, 2) := dk_16 30 (dk_at dksX2_write_0 15 rfl rfl)
theorem dX2_write_17 : decode cX2_write 17 = .ok (.if_icmp .ne 50, 3) := dk_160 0 50 (dk_at dksX2_write_0 17 rfl rfl)
theorem dX2_write_20 : decode cX2_write 20 = .ok (.iconst 1, 1) := dk_4 (dk_at dksX2_write_0 20 rfl rfl)
theorem dX2_write_21 : decode cX2_write 21 = .ok (.istore_n 3, 1) := dk_62 (dk_at dksX2_write_0 21 rfl rfl)
theorem dX2_write_22 : decode cX2_write 22 = .ok (.iload_n 3, 1) := dk_29 (dk_at dksX2_write_0 22 rfl rfl)
theorem dX2_write_23 : decode cX2_write 23 = .ok (.bipush 30, 2) := dk_16 30 (dk_at dksX2_write_1 0 rfl rfl)
theorem dX2_write_25 : decode cX2_write 25 = .ok (.if_icmp .ge 31, 3) := dk_162 0 31 (dk_at dksX2_write_1 2 rfl rfl)
theorem dX2_write_28 : decode cX2_write 28 = .ok (.aload_n 0, 1) := dk_42 (dk_at dksX2_write_1 5 rfl rfl)
theorem dX2_write_29 : decode cX2_write 29 = .ok (.getfield 7, 3) := dk_180 0 7 (dk_at dksX2_write_1 6 rfl rfl)
theorem dX2_write_32 : decode cX2_write 32 = .ok (.sipush 3175, 3) := dk_17 12 103 (dk_at dksX2_write_1 9 rfl rfl)
theorem dX2_write_35 : decode cX2_write 35 = .ok (.iload_n 3, 1) := dk_29 (dk_at dksX2_write_1 12 rfl rfl)
theorem dX2_write_36 : decode cX2_write 36 = .ok (.iadd, 1) := dk_96 (dk_at dksX2_write_1 13 rfl rfl)
theorem dX2_write_37 : decode cX2_write 37 = .ok (.iconst 1, 1) := dk_4 (dk_at dksX2_write_1 14 rfl rfl)
theorem dX2_write_38 : decode cX2_write 38 = .ok (.isub, 1) := dk_100 (dk_at dksX2_write_1 15 rfl rfl)
theorem dX2_write_39 : decode cX2_write 39 = .ok (.aload_n 0, 1) := dk_42 (dk_at dksX2_write_1 16 rfl rfl)
theorem dX2_write_40 : decode cX2_write 40 = .ok (.getfield 7, 3) := dk_180 0 7 (dk_at dksX2_write_1 17 rfl rfl)
theorem dX2_write_43 : decode cX2_write 43 = .ok (.sipush 3175, 3) := dk_17 12 103 (dk_at dksX2_write_1 20 rfl rfl)
theorem dX2_write_46 : decode cX2_write 46 = .ok (.iload_n 3, 1) := dk_29 (dk_at dksX2_write_1 23 rfl rfl)
theorem dX2_write_47 : decode cX2_write 47 = .ok (.iadd, 1) := dk_96 (dk_at dksX2_write_2 0 rfl rfl)
theorem dX2_write_48 : decode cX2_write 48 = .ok (.iaload, 1) := dk_46 (dk_at dksX2_write_2 1 rfl rfl)
theorem dX2_write_49 : decode cX2_write 49 = .ok (.iastore, 1) := dk_79 (dk_at dksX2_write_2 2 rfl rfl)
theorem dX2_write_50 : decode cX2_write 50 = .ok (.iinc 3 1, 3) := dk_132 3 1 (dk_at dksX2_write_2 3 rfl rfl)
theorem dX2_write_53 : decode cX2_write 53 = .ok (.goto (-31), 3) := dk_167 255 225 (dk_at dksX2_write_2 6 rfl rfl)
theorem dX2_write_56 : decode cX2_write 56 = .ok (.aload_n 0, 1) := dk_42 (dk_at dksX2_write_2 9 rfl rfl)
theorem dX2_write_57 : decode cX2_write 57 = .ok (.getfield 7, 3) := dk_180 0 7 (dk_at dksX2_write_2 10 rfl rfl)
theorem dX2_write_60 : decode cX2_write 60 = .ok (.bipush 8, 2) := dk_16 8 (dk_at dksX2_write_2 13 rfl rfl)
theorem dX2_write_62 : decode cX2_write 62 = .ok (.dup2, 1) := dk_92 (dk_at dksX2_write_2 15 rfl rfl)
theorem dX2_write_63 : decode cX2_write 63 = .ok (.iaload, 1) := dk_46 (dk_at dksX2_write_2 16 rfl rfl)
theorem dX2_write_64 : decode cX2_write 64 = .ok (.iconst 1, 1) := dk_4 (dk_at dksX2_write_2 17 rfl rfl)
theorem dX2_write_65 : decode cX2_write 65 = .ok (.isub, 1) := dk_100 (dk_at dksX2_write_2 18 rfl rfl)
theorem dX2_write_66 : decode cX2_write 66 = .ok (.iastore, 1) := dk_79 (dk_at dksX2_write_2 19 rfl rfl)
theorem dX2_write_67 : decode cX2_write 67 = .ok (.aload_n 0, 1) := dk_42 (dk_at dksX2_write_2 20 rfl rfl)
theorem dX2_write_68 : decode cX2_write 68 = .ok (.getfield 7, 3) := dk_180 0 7 (dk_at dksX2_write_2 21 rfl rfl)
theorem dX2_write_71 : decode cX2_write 71 = .ok (.sipush 3175, 3) := dk_17 12 103 (dk_at dksX2_write_3 0 rfl rfl)
theorem dX2_write_74 : decode cX2_write 74 = .ok (.aload_n 0, 1) := dk_42 (dk_at dksX2_write_3 3 rfl rfl)
theorem dX2_write_75 : decode cX2_write 75 = .ok (.getfield 7, 3) := dk_180 0 7 (dk_at dksX2_write_3 4 rfl rfl)
theorem dX2_write_78 : decode cX2_write 78 = .ok (.bipush 8, 2) := dk_16 8 (dk_at dksX2_write_3 7 rfl rfl)
theorem dX2_write_80 : decode cX2_write 80 = .ok (.iaload, 1) := dk_46 (dk_at dksX2_write_3 9 rfl rfl)
theorem dX2_write_81 : decode cX2_write 81 = .ok (.iadd, 1) := dk_96 (dk_at dksX2_write_3 10 rfl rfl)
theorem dX2_write_82 : decode cX2_write 82 = .ok (.aload_n 0, 1) := dk_42 (dk_at dksX2_write_3 11 rfl rfl)
theorem dX2_write_83 : decode cX2_write 83 = .ok (.getfield 7, 3) := dk_180 0 7 (dk_at dksX2_write_3 12 rfl rfl)
theorem dX2_write_86 : decode cX2_write 86 = .ok (.bipush 6, 2) := dk_16 6 (dk_at dksX2_write_3 15 rfl rfl)
theorem dX2_write_88 : decode cX2_write 88 = .ok (.iaload, 1) := dk_46 (dk_at dksX2_write_3 17 rfl rfl)
theorem dX2_write_89 : decode cX2_write 89 = .ok (.bipush 7, 2) := dk_16 7 (dk_at dksX2_write_3 18 rfl rfl)
theorem dX2_write_91 : decode cX2_write 91 = .ok (.imul, 1) := dk_104 (dk_at dksX2_write_3 20 rfl rfl)
theorem dX2_write_92 : decode cX2_write 92 = .ok (.iload_n 1, 1) := dk_27 (dk_at dksX2_write_3 21 rfl rfl)
theorem dX2_write_93 : decode cX2_write 93 = .ok (.iadd, 1) := dk_96 (dk_at dksX2_write_3 22 rfl rfl)
theorem dX2_write_94 : decode cX2_write 94 = .ok (.bipush 30, 2) := dk_16 30 (dk_at dksX2_write_4 0 rfl rfl)
theorem dX2_write_96 : decode cX2_write 96 = .ok (.imul, 1) := dk_104 (dk_at dksX2_write_4 2 rfl rfl)
theorem dX2_write_97 : decode cX2_write 97 = .ok (.iload_n 2, 1) := dk_28 (dk_at dksX2_write_4 3 rfl rfl)
theorem dX2_write_98 : decode cX2_write 98 = .ok (.iadd, 1) := dk_96 (dk_at dksX2_write_4 4 rfl rfl)
theorem dX2_write_99 : decode cX2_write 99 = .ok (.bipush 61, 2) := dk_16 61 (dk_at dksX2_write_4 5 rfl rfl)
theorem dX2_write_101 : decode cX2_write 101 = .ok (.imul, 1) := dk_104 (dk_at dksX2_write_4 7 rfl rfl)
theorem dX2_write_102 : decode cX2_write 102 = .ok (.aload_n 0, 1) := dk_42 (dk_at dksX2_write_4 8 rfl rfl)
theorem dX2_write_103 : decode cX2_write 103 = .ok (.getfield 7, 3) := dk_180 0 7 (dk_at dksX2_write_4 9 rfl rfl)
theorem dX2_write_106 : decode cX2_write 106 = .ok (.bipush 69, 2) := dk_16 69 (dk_at dksX2_write_4 12 rfl rfl)
theorem dX2_write_108 : decode cX2_write 108 = .ok (.iload_n 1, 1) := dk_27 (dk_at dksX2_write_4 14 rfl rfl)
theorem dX2_write_109 : decode cX2_write 109 = .ok (.iadd, 1) := dk_96 (dk_at dksX2_write_4 15 rfl rfl)
theorem dX2_write_110 : decode cX2_write 110 = .ok (.iaload, 1) := dk_46 (dk_at dksX2_write_4 16 rfl rfl)
theorem dX2_write_111 : decode cX2_write 111 = .ok (.iadd, 1) := dk_96 (dk_at dksX2_write_4 17 rfl rfl)
theorem dX2_write_112 : decode cX2_write 112 = .ok (.iastore, 1) := dk_79 (dk_at dksX2_write_4 18 rfl rfl)
theorem dX2_write_113 : decode cX2_write 113 = .ok (.aload_n 0, 1) := dk_42 (dk_at dksX2_write_4 19 rfl rfl)
theorem dX2_write_114 : decode cX2_write 114 = .ok (.getfield 7, 3) := dk_180 0 7 (dk_at dksX2_write_4 20 rfl rfl)
theorem dX2_write_117 : decode cX2_write 117 = .ok (.bipush 8, 2) := dk_16 8 (dk_at dksX2_write_5 0 rfl rfl)
theorem dX2_write_119 : decode cX2_write 119 = .ok (.dup2, 1) := dk_92 (dk_at dksX2_write_5 2 rfl rfl)
theorem dX2_write_120 : decode cX2_write 120 = .ok (.iaload, 1) := dk_46 (dk_at dksX2_write_5 3 rfl rfl)
theorem dX2_write_121 : decode cX2_write 121 = .ok (.iconst 1, 1) := dk_4 (dk_at dksX2_write_5 4 rfl rfl)
theorem dX2_write_122 : decode cX2_write 122 = .ok (.iadd, 1) := dk_96 (dk_at dksX2_write_5 5 rfl rfl)
theorem dX2_write_123 : decode cX2_write 123 = .ok (.iastore, 1) := dk_79 (dk_at dksX2_write_5 6 rfl rfl)
theorem dX2_write_124 : decode cX2_write 124 = .ok (.return_, 1) := dk_177 (dk_at dksX2_write_5 7 rfl rfl)
abbrev cX2_cut : ByteArray := prog_20_method_75_code
def yX2_cut : MethodName := ⟨RX2, "cut", "(I)Z"⟩
def dkwX2_cut_1 : List UInt8 := [180, 0, 7, 16, 9, 27, 96, 3, 79, 4, 172]
abbrev dktX2_cut_1 : List UInt8 := dkwX2_cut_1 ++ []
def dkwX2_cut_0 : List UInt8 := [27, 184, 0, 73, 153, 0, 11, 42, 27, 182, 1, 44, 154, 0, 5, 3, 172, 42, 182, 1, 72, 42]
abbrev dktX2_cut_0 : List UInt8 := dkwX2_cut_0 ++ dktX2_cut_1
theorem dksX2_cut_0 : cX2_cut.data.toList.drop 0 = dktX2_cut_0 := by decide +kernel
theorem dksX2_cut_1 : cX2_cut.data.toList.drop 22 = dktX2_cut_1 := dk_seg dksX2_cut_0 22 rfl rfl
theorem dX2_cut_0 : decode cX2_cut 0 = .ok (.iload_n 1, 1) := dk_27 (dk_at dksX2_cut_0 0 rfl rfl)
theorem dX2_cut_1 : decode cX2_cut 1 = .ok (.invokestatic 73, 3) := dk_184 0 73 (dk_at dksX2_cut_0 1 rfl rfl)
theorem dX2_cut_4 : decode cX2_cut 4 = .ok (.ifCond .eq 11, 3) := dk_153 0 11 (dk_at dksX2_cut_0 4 rfl rfl)
theorem dX2_cut_7 : decode cX2_cut 7 = .ok (.aload_n 0, 1) := dk_42 (dk_at dksX2_cut_0 7 rfl rfl)
theorem dX2_cut_8 : decode cX2_cut 8 = .ok (.iload_n 1, 1) := dk_27 (dk_at dksX2_cut_0 8 rfl rfl)
theorem dX2_cut_9 : decode cX2_cut 9 = .ok (.invokevirtual 300, 3) := dk_182 1 44 (dk_at dksX2_cut_0 9 rfl rfl)
theorem dX2_cut_12 : decode cX2_cut 12 = .ok (.ifCond .ne 5, 3) := dk_154 0 5 (dk_at dksX2_cut_0 12 rfl rfl)
theorem dX2_cut_15 : decode cX2_cut 15 = .ok (.iconst 0, 1) := dk_3 (dk_at dksX2_cut_0 15 rfl rfl)
theorem dX2_cut_16 : decode cX2_cut 16 = .ok (.ireturn, 1) := dk_172 (dk_at dksX2_cut_0 16 rfl rfl)
theorem dX2_cut_17 : decode cX2_cut 17 = .ok (.aload_n 0, 1) := dk_42 (dk_at dksX2_cut_0 17 rfl rfl)
theorem dX2_cut_18 : decode cX2_cut 18 = .ok (.invokevirtual 328, 3) := dk_182 1 72 (dk_at dksX2_cut_0 18 rfl rfl)
theorem dX2_cut_21 : decode cX2_cut 21 = .ok (.aload_n 0, 1) := dk_42 (dk_at dksX2_cut_0 21 rfl rfl)
theorem dX2_cut_22 : decode cX2_cut 22 = .ok (.getfield 7, 3) := dk_180 0 7 (dk_at dksX2_cut_1 0 rfl rfl)
theorem dX2_cut_25 : decode cX2_cut 25 = .ok (.bipush 9, 2) := dk_16 9 (dk_at dksX2_cut_1 3 rfl rfl)
theorem dX2_cut_27 : decode cX2_cut 27 = .ok (.iload_n 1, 1) := dk_27 (dk_at dksX2_cut_1 5 rfl rfl)
theorem dX2_cut_28 : decode cX2_cut 28 = .ok (.iadd, 1) := dk_96 (dk_at dksX2_cut_1 6 rfl rfl)
theorem dX2_cut_29 : decode cX2_cut 29 = .ok (.iconst 0, 1) := dk_3 (dk_at dksX2_cut_1 7 rfl rfl)
theorem dX2_cut_30 : decode cX2_cut 30 = .ok (.iastore, 1) := dk_79 (dk_at dksX2_cut_1 8 rfl rfl)
theorem dX2_cut_31 : decode cX2_cut 31 = .ok (.iconst 1, 1) := dk_4 (dk_at dksX2_cut_1 9 rfl rfl)
theorem dX2_cut_32 : decode cX2_cut 32 = .ok (.ireturn, 1) := dk_172 (dk_at dksX2_cut_1 10 rfl rfl)
abbrev cX2_add : ByteArray := prog_20_method_77_code
def yX2_add : MethodName := ⟨RX2, "add", "(I)Z"⟩
def dkwX2_add_1 : List UInt8 := [182, 1, 72, 42, 27, 182, 1, 75, 4, 172]
abbrev dktX2_add_1 : List UInt8 := dkwX2_add_1 ++ []
def dkwX2_add_0 : List UInt8 := [27, 184, 0, 73, 153, 0, 15, 42, 180, 0, 7, 16, 9, 27, 96, 46, 153, 0, 5, 3, 172, 42]
abbrev dktX2_add_0 : List UInt8 := dkwX2_add_0 ++ dktX2_add_1
theorem dksX2_add_0 : cX2_add.data.toList.drop 0 = dktX2_add_0 := by decide +kernel
theorem dksX2_add_1 : cX2_add.data.toList.drop 22 = dktX2_add_1 := dk_seg dksX2_add_0 22 rfl rfl
theorem dX2_add_0 : decode cX2_add 0 = .ok (.iload_n 1, 1) := dk_27 (dk_at dksX2_add_0 0 rfl rfl)
theorem dX2_add_1 : decode cX2_add 1 = .ok (.invokestatic 73, 3) := dk_184 0 73 (dk_at dksX2_add_0 1 rfl rfl)
theorem dX2_add_4 : decode cX2_add 4 = .ok (.ifCond .eq 15, 3) := dk_153 0 15 (dk_at dksX2_add_0 4 rfl rfl)
theorem dX2_add_7 : decode cX2_add 7 = .ok (.aload_n 0, 1) := dk_42 (dk_at dksX2_add_0 7 rfl rfl)
theorem dX2_add_8 : decode cX2_add 8 = .ok (.getfield 7, 3) := dk_180 0 7 (dk_at dksX2_add_0 8 rfl rfl)
theorem dX2_add_11 : decode cX2_add 11 = .ok (.bipush 9, 2) := dk_16 9 (dk_at dksX2_add_0 11 rfl rfl)
theorem dX2_add_13 : decode cX2_add 13 = .ok (.iload_n 1, 1) := dk_27 (dk_at dksX2_add_0 13 rfl rfl)
theorem dX2_add_14 : decode cX2_add 14 = .ok (.iadd, 1) := dk_96 (dk_at dksX2_add_0 14 rfl rfl)
theorem dX2_add_15 : decode cX2_add 15 = .ok (.iaload, 1) := dk_46 (dk_at dksX2_add_0 15 rfl rfl)
theorem dX2_add_16 : decode cX2_add 16 = .ok (.ifCond .eq 5, 3) := dk_153 0 5 (dk_at dksX2_add_0 16 rfl rfl)
theorem dX2_add_19 : decode cX2_add 19 = .ok (.iconst 0, 1) := dk_3 (dk_at dksX2_add_0 19 rfl rfl)
theorem dX2_add_20 : decode cX2_add 20 = .ok (.ireturn, 1) := dk_172 (dk_at dksX2_add_0 20 rfl rfl)
theorem dX2_add_21 : decode cX2_add 21 = .ok (.aload_n 0, 1) := dk_42 (dk_at dksX2_add_0 21 rfl rfl)
theorem dX2_add_22 : decode cX2_add 22 = .ok (.invokevirtual 328, 3) := dk_182 1 72 (dk_at dksX2_add_1 0 rfl rfl)
theorem dX2_add_25 : decode cX2_add 25 = .ok (.aload_n 0, 1) := dk_42 (dk_at dksX2_add_1 3 rfl rfl)
theorem dX2_add_26 : decode cX2_add 26 = .ok (.iload_n 1, 1) := dk_27 (dk_at dksX2_add_1 4 rfl rfl)
theorem dX2_add_27 : decode cX2_add 27 = .ok (.invokevirtual 331, 3) := dk_182 1 75 (dk_at dksX2_add_1 5 rfl rfl)
theorem dX2_add_30 : decode cX2_add 30 = .ok (.iconst 1, 1) := dk_4 (dk_at dksX2_add_1 8 rfl rfl)
theorem dX2_add_31 : decode cX2_add 31 = .ok (.ireturn, 1) := dk_172 (dk_at dksX2_add_1 9 rfl rfl)
abbrev cX2_addNow : ByteArray := prog_20_method_76_code
def yX2_addNow : MethodName := ⟨RX2, "addNow", "(I)V"⟩
def dkwX2_addNow_0 : List UInt8 := [42, 180, 0, 7, 16, 9, 27, 96, 4, 79, 42, 180, 0, 7, 16, 39, 27, 96, 3, 79, 177]
abbrev dktX2_addNow_0 : List UInt8 := dkwX2_addNow_0 ++ []
theorem dksX2_addNow_0 : cX2_addNow.data.toList.drop 0 = dktX2_addNow_0 := by decide +kernel
theorem dX2_addNow_0 : decode cX2_addNow 0 = .ok (.aload_n 0, 1) := dk_42 (dk_at dksX2_addNow_0 0 rfl rfl)
theorem dX2_addNow_1 : decode cX2_addNow 1 = .ok (.getfield 7, 3) := dk_180 0 7 (dk_at dksX2_addNow_0 1 rfl rfl)
theorem dX2_addNow_4 : decode cX2_addNow 4 = .ok (.bipush 9, 2) := dk_16 9 (dk_at dksX2_addNow_0 4 rfl rfl)
theorem dX2_addNow_6 : decode cX2_addNow 6 = .ok (.iload_n 1, 1) := dk_27 (dk_at dksX2_addNow_0 6 rfl rfl)
theorem dX2_addNow_7 : decode cX2_addNow 7 = .ok (.iadd, 1) := dk_96 (dk_at dksX2_addNow_0 7 rfl rfl)
theorem dX2_addNow_8 : decode cX2_addNow 8 = .ok (.iconst 1, 1) := dk_4 (dk_at dksX2_addNow_0 8 rfl rfl)
theorem dX2_addNow_9 : decode cX2_addNow 9 = .ok (.iastore, 1) := dk_79 (dk_at dksX2_addNow_0 9 rfl rfl)
theorem dX2_addNow_10 : decode cX2_addNow 10 = .ok (.aload_n 0, 1) := dk_42 (dk_at dksX2_addNow_0 10 rfl rfl)
theorem dX2_addNow_11 : decode cX2_addNow 11 = .ok (.getfield 7, 3) := dk_180 0 7 (dk_at dksX2_addNow_0 11 rfl rfl)
theorem dX2_addNow_14 : decode cX2_addNow 14 = .ok (.bipush 39, 2) := dk_16 39 (dk_at dksX2_addNow_0 14 rfl rfl)
theorem dX2_addNow_16 : decode cX2_addNow 16 = .ok (.iload_n 1, 1) := dk_27 (dk_at dksX2_addNow_0 16 rfl rfl)
theorem dX2_addNow_17 : decode cX2_addNow 17 = .ok (.iadd, 1) := dk_96 (dk_at dksX2_addNow_0 17 rfl rfl)
theorem dX2_addNow_18 : decode cX2_addNow 18 = .ok (.iconst 0, 1) := dk_3 (dk_at dksX2_addNow_0 18 rfl rfl)
theorem dX2_addNow_19 : decode cX2_addNow 19 = .ok (.iastore, 1) := dk_79 (dk_at dksX2_addNow_0 19 rfl rfl)
theorem dX2_addNow_20 : decode cX2_addNow 20 = .ok (.return_, 1) := dk_177 (dk_at dksX2_addNow_0 20 rfl rfl)
abbrev cX2_year : ByteArray := prog_20_method_79_code
def yX2_year : MethodName := ⟨RX2, "year", "(I)I"⟩
def dkwX2_year_1 : List UInt8 := [163, 0, 18, 42, 27, 182, 1, 81, 153, 0, 10, 42, 180, 1, 54, 167, 0, 4, 2, 172]
abbrev dktX2_year_1 : List UInt8 := dkwX2_year_1 ++ []
def dkwX2_year_0 : List UInt8 := [27, 4, 16, 60, 184, 0, 69, 153, 0, 33, 42, 180, 0, 7, 16, 6, 46, 27, 96, 17, 39, 15]
abbrev dktX2_year_0 : List UInt8 := dkwX2_year_0 ++ dktX2_year_1
theorem dksX2_year_0 : cX2_year.data.toList.drop 0 = dktX2_year_0 := by decide +kernel
theorem dksX2_year_1 : cX2_year.data.toList.drop 22 = dktX2_year_1 := dk_seg dksX2_year_0 22 rfl rfl
theorem dX2_year_0 : decode cX2_year 0 = .ok (.iload_n 1, 1) := dk_27 (dk_at dksX2_year_0 0 rfl rfl)
theorem dX2_year_1 : decode cX2_year 1 = .ok (.iconst 1, 1) := dk_4 (dk_at dksX2_year_0 1 rfl rfl)
theorem dX2_year_2 : decode cX2_year 2 = .ok (.bipush 60, 2) := dk_16 60 (dk_at dksX2_year_0 2 rfl rfl)
theorem dX2_year_4 : decode cX2_year 4 = .ok (.invokestatic 69, 3) := dk_184 0 69 (dk_at dksX2_year_0 4 rfl rfl)
theorem dX2_year_7 : decode cX2_year 7 = .ok (.ifCond .eq 33, 3) := dk_153 0 33 (dk_at dksX2_year_0 7 rfl rfl)
theorem dX2_year_10 : decode cX2_year 10 = .ok (.aload_n 0, 1) := dk_42 (dk_at dksX2_year_0 10 rfl rfl)
theorem dX2_year_11 : decode cX2_year 11 = .ok (.getfield 7, 3) := dk_180 0 7 (dk_at dksX2_year_0 11 rfl rfl)
theorem dX2_year_14 : decode cX2_year 14 = .ok (.bipush 6, 2) := dk_16 6 (dk_at dksX2_year_0 14 rfl rfl)
theorem dX2_year_16 : decode cX2_year 16 = .ok (.iaload, 1) := dk_46 (dk_at dksX2_year_0 16 rfl rfl)
theorem dX2_year_17 : decode cX2_year 17 = .ok (.iload_n 1, 1) := dk_27 (dk_at dksX2_year_0 17 rfl rfl)
theorem dX2_year_18 : decode cX2_year 18 = .ok (.iadd, 1) := dk_96 (dk_at dksX2_year_0 18 rfl rfl)
theorem dX2_year_19 : decode cX2_year 19 = .ok (.sipush 9999, 3) := dk_17 39 15 (dk_at dksX2_year_0 19 rfl rfl)
theorem dX2_year_22 : decode cX2_year 22 = .ok (.if_icmp .gt 18, 3) := dk_163 0 18 (dk_at dksX2_year_1 0 rfl rfl)
theorem dX2_year_25 : decode cX2_year 25 = .ok (.aload_n 0, 1) := dk_42 (dk_at dksX2_year_1 3 rfl rfl)
theorem dX2_year_26 : decode cX2_year 26 = .ok (.iload_n 1, 1) := dk_27 (dk_at dksX2_year_1 4 rfl rfl)
theorem dX2_year_27 : decode cX2_year 27 = .ok (.invokevirtual 337, 3) := dk_182 1 81 (dk_at dksX2_year_1 5 rfl rfl)
theorem dX2_year_30 : decode cX2_year 30 = .ok (.ifCond .eq 10, 3) := dk_153 0 10 (dk_at dksX2_year_1 8 rfl rfl)
theorem dX2_year_33 : decode cX2_year 33 = .ok (.aload_n 0, 1) := dk_42 (dk_at dksX2_year_1 11 rfl rfl)
theorem dX2_year_34 : decode cX2_year 34 = .ok (.getfield 310, 3) := dk_180 1 54 (dk_at dksX2_year_1 12 rfl rfl)
theorem dX2_year_37 : decode cX2_year 37 = .ok (.goto 4, 3) := dk_167 0 4 (dk_at dksX2_year_1 15 rfl rfl)
theorem dX2_year_40 : decode cX2_year 40 = .ok (.iconst (-1), 1) := dk_2 (dk_at dksX2_year_1 18 rfl rfl)
theorem dX2_year_41 : decode cX2_year 41 = .ok (.ireturn, 1) := dk_172 (dk_at dksX2_year_1 19 rfl rfl)
abbrev cX2_arePassed : ByteArray := prog_20_method_78_code
def yX2_arePassed : MethodName := ⟨RX2, "arePassed", "(I)Z"⟩
def dkwX2_arePassed_1 : List UInt8 := [160, 0, 5, 3, 172, 42, 182, 1, 72, 42, 182, 1, 78, 132, 2, 1, 167, 255, 225, 4, 172]
abbrev dktX2_arePassed_1 : List UInt8 := dkwX2_arePassed_1 ++ []
def dkwX2_arePassed_0 : List UInt8 := [42, 3, 181, 1, 54, 3, 61, 28, 27, 162, 0, 32, 42, 180, 0, 7, 16, 6, 46, 17, 39, 15]
abbrev dktX2_arePassed_0 : List UInt8 := dkwX2_arePassed_0 ++ dktX2_arePassed_1
theorem dksX2_arePassed_0 : cX2_arePassed.data.toList.drop 0 = dktX2_arePassed_0 := by decide +kernel
theorem dksX2_arePassed_1 : cX2_arePassed.data.toList.drop 22 = dktX2_arePassed_1 := dk_seg dksX2_arePassed_0 22 rfl rfl
theorem dX2_arePassed_0 : decode cX2_arePassed 0 = .ok (.aload_n 0, 1) := dk_42 (dk_at dksX2_arePassed_0 0 rfl rfl)
theorem dX2_arePassed_1 : decode cX2_arePassed 1 = .ok (.iconst 0, 1) := dk_3 (dk_at dksX2_arePassed_0 1 rfl rfl)
theorem dX2_arePassed_2 : decode cX2_arePassed 2 = .ok (.putfield 310, 3) := dk_181 1 54 (dk_at dksX2_arePassed_0 2 rfl rfl)
theorem dX2_arePassed_5 : decode cX2_arePassed 5 = .ok (.iconst 0, 1) := dk_3 (dk_at dksX2_arePassed_0 5 rfl rfl)
theorem dX2_arePassed_6 : decode cX2_arePassed 6 = .ok (.istore_n 2, 1) := dk_61 (dk_at dksX2_arePassed_0 6 rfl rfl)
theorem dX2_arePassed_7 : decode cX2_arePassed 7 = .ok (.iload_n 2, 1) := dk_28 (dk_at dksX2_arePassed_0 7 rfl rfl)
theorem dX2_arePassed_8 : decode cX2_arePassed 8 = .ok (.iload_n 1, 1) := dk_27 (dk_at dksX2_arePassed_0 8 rfl rfl)
theorem dX2_arePassed_9 : decode cX2_arePassed 9 = .ok (.if_icmp .ge 32, 3) := dk_162 0 32 (dk_at dksX2_arePassed_0 9 rfl rfl)
theorem dX2_arePassed_12 : decode cX2_arePassed 12 = .ok (.aload_n 0, 1) := dk_42 (dk_at dksX2_arePassed_0 12 rfl rfl)
theorem dX2_arePassed_13 : decode cX2_arePassed 13 = .ok (.getfield 7, 3) := dk_180 0 7 (dk_at dksX2_arePassed_0 13 rfl rfl)
theorem dX2_arePassed_16 : decode cX2_arePassed 16 = .ok (.bipush 6, 2) := dk_16 6 (dk_at dksX2_arePassed_0 16 rfl rfl)
theorem dX2_arePassed_18 : decode cX2_arePassed 18 = .ok (.iaload, 1) := dk_46 (dk_at dksX2_arePassed_0 18 rfl rfl)
theorem dX2_arePassed_19 : decode cX2_arePassed 19 = .ok (.sipush 9999, 3) := dk_17 39 15 (dk_at dksX2_arePassed_0 19 rfl rfl)
theorem dX2_arePassed_22 : decode cX2_arePassed 22 = .ok (.if_icmp .ne 5, 3) := dk_160 0 5 (dk_at dksX2_arePassed_1 0 rfl rfl)
theorem dX2_arePassed_25 : decode cX2_arePassed 25 = .ok (.iconst 0, 1) := dk_3 (dk_at dksX2_arePassed_1 3 rfl rfl)
theorem dX2_arePassed_26 : decode cX2_arePassed 26 = .ok (.ireturn, 1) := dk_172 (dk_at dksX2_arePassed_1 4 rfl rfl)
theorem dX2_arePassed_27 : decode cX2_arePassed 27 = .ok (.aload_n 0, 1) := dk_42 (dk_at dksX2_arePassed_1 5 rfl rfl)
theorem dX2_arePassed_28 : decode cX2_arePassed 28 = .ok (.invokevirtual 328, 3) := dk_182 1 72 (dk_at dksX2_arePassed_1 6 rfl rfl)
theorem dX2_arePassed_31 : decode cX2_arePassed 31 = .ok (.aload_n 0, 1) := dk_42 (dk_at dksX2_arePassed_1 9 rfl rfl)
theorem dX2_arePassed_32 : decode cX2_arePassed 32 = .ok (.invokevirtual 334, 3) := dk_182 1 78 (dk_at dksX2_arePassed_1 10 rfl rfl)
theorem dX2_arePassed_35 : decode cX2_arePassed 35 = .ok (.iinc 2 1, 3) := dk_132 2 1 (dk_at dksX2_arePassed_1 13 rfl rfl)
theorem dX2_arePassed_38 : decode cX2_arePassed 38 = .ok (.goto (-31), 3) := dk_167 255 225 (dk_at dksX2_arePassed_1 16 rfl rfl)
theorem dX2_arePassed_41 : decode cX2_arePassed 41 = .ok (.iconst 1, 1) := dk_4 (dk_at dksX2_arePassed_1 19 rfl rfl)
theorem dX2_arePassed_42 : decode cX2_arePassed 42 = .ok (.ireturn, 1) := dk_172 (dk_at dksX2_arePassed_1 20 rfl rfl)
abbrev cX2_pass : ByteArray := prog_20_method_70_code
def yX2_pass : MethodName := ⟨RX2, "pass", "()V"⟩
def dkwX2_pass_4 : List UInt8 := [132, 1, 1, 167, 255, 208, 42, 180, 0, 7, 16, 6, 92, 46, 4, 96, 79, 177]
abbrev dktX2_pass_4 : List UInt8 := dkwX2_pass_4 ++ []
def dkwX2_pass_3 : List UInt8 := [180, 0, 7, 16, 39, 27, 96, 46, 42, 27, 182, 1, 63, 96, 133, 3, 16, 9, 184, 1, 25, 79]
abbrev dktX2_pass_3 : List UInt8 := dkwX2_pass_3 ++ dktX2_pass_4
def dkwX2_pass_2 : List UInt8 := [16, 30, 162, 0, 48, 42, 27, 182, 1, 44, 153, 0, 34, 42, 180, 0, 7, 16, 39, 27, 96, 42]
abbrev dktX2_pass_2 : List UInt8 := dkwX2_pass_2 ++ dktX2_pass_3
def dkwX2_pass_1 : List UInt8 := [160, 0, 14, 42, 27, 42, 16, 30, 182, 1, 51, 182, 1, 60, 132, 1, 1, 167, 255, 219, 3, 60, 27]
abbrev dktX2_pass_1 : List UInt8 := dkwX2_pass_1 ++ dktX2_pass_2
def dkwX2_pass_0 : List UInt8 := [3, 60, 27, 42, 180, 0, 7, 3, 46, 162, 0, 33, 42, 180, 0, 7, 16, 69, 27, 96, 46, 2]
abbrev dktX2_pass_0 : List UInt8 := dkwX2_pass_0 ++ dktX2_pass_1
theorem dksX2_pass_0 : cX2_pass.data.toList.drop 0 = dktX2_pass_0 := by decide +kernel
theorem dksX2_pass_1 : cX2_pass.data.toList.drop 22 = dktX2_pass_1 := dk_seg dksX2_pass_0 22 rfl rfl
theorem dksX2_pass_2 : cX2_pass.data.toList.drop 45 = dktX2_pass_2 := dk_seg dksX2_pass_1 23 rfl rfl
theorem dksX2_pass_3 : cX2_pass.data.toList.drop 67 = dktX2_pass_3 := dk_seg dksX2_pass_2 22 rfl rfl
theorem dksX2_pass_4 : cX2_pass.data.toList.drop 89 = dktX2_pass_4 := dk_seg dksX2_pass_3 22 rfl rfl
theorem dX2_pass_0 : decode cX2_pass 0 = .ok (.iconst 0, 1) := dk_3 (dk_at dksX2_pass_0 0 rfl rfl)
theorem dX2_pass_1 : decode cX2_pass 1 = .ok (.istore_n 1, 1) := dk_60 (dk_at dksX2_pass_0 1 rfl rfl)
theorem dX2_pass_2 : decode cX2_pass 2 = .ok (.iload_n 1, 1) := dk_27 (dk_at dksX2_pass_0 2 rfl rfl)
theorem dX2_pass_3 : decode cX2_pass 3 = .ok (.aload_n 0, 1) := dk_42 (dk_at dksX2_pass_0 3 rfl rfl)
theorem dX2_pass_4 : decode cX2_pass 4 = .ok (.getfield 7, 3) := dk_180 0 7 (dk_at dksX2_pass_0 4 rfl rfl)
theorem dX2_pass_7 : decode cX2_pass 7 = .ok (.iconst 0, 1) := dk_3 (dk_at dksX2_pass_0 7 rfl rfl)
theorem dX2_pass_8 : decode cX2_pass 8 = .ok (.iaload, 1) := dk_46 (dk_at dksX2_pass_0 8 rfl rfl)
theorem dX2_pass_9 : decode cX2_pass 9 = .ok (.if_icmp .ge 33, 3) := dk_162 0 33 (dk_at dksX2_pass_0 9 rfl rfl)
theorem dX2_pass_12 : decode cX2_pass 12 = .ok (.aload_n 0, 1) := dk_42 (dk_at dksX2_pass_0 12 rfl rfl)
theorem dX2_pass_13 : decode cX2_pass 13 = .ok (.getfield 7, 3) := dk_180 0 7 (dk_at dksX2_pass_0 13 rfl rfl)
theorem dX2_pass_16 : decode cX2_pass 16 = .ok (.bipush 69, 2) := dk_16 69 (dk_at dksX2_pass_0 16 rfl rfl)
theorem dX2_pass_18 : decode cX2_pass 18 = .ok (.iload_n 1, 1) := dk_27 (dk_at dksX2_pass_0 18 rfl rfl)
theorem dX2_pass_19 : decode cX2_pass 19 = .ok (.iadd, 1) := dk_96 (dk_at dksX2_pass_0 19 rfl rfl)
theorem dX2_pass_20 : decode cX2_pass 20 = .ok (.iaload, 1) := dk_46 (dk_at dksX2_pass_0 20 rfl rfl)
theorem dX2_pass_21 : decode cX2_pass 21 = .ok (.iconst (-1), 1) := dk_2 (dk_at dksX2_pass_0 21 rfl rfl)
theorem dX2_pass_22 : decode cX2_pass 22 = .ok (.if_icmp .ne 14, 3) := dk_160 0 14 (dk_at dksX2_pass_1 0 rfl rfl)
theorem dX2_pass_25 : decode cX2_pass 25 = .ok (.aload_n 0, 1) := dk_42 (dk_at dksX2_pass_1 3 rfl rfl)
theorem dX2_pass_26 : decode cX2_pass 26 = .ok (.iload_n 1, 1) := dk_27 (dk_at dksX2_pass_1 4 rfl rfl)
theorem dX2_pass_27 : decode cX2_pass 27 = .ok (.aload_n 0, 1) := dk_42 (dk_at dksX2_pass_1 5 rfl rfl)
theorem dX2_pass_28 : decode cX2_pass 28 = .ok (.bipush 30, 2) := dk_16 30 (dk_at dksX2_pass_1 6 rfl rfl)
theorem dX2_pass_30 : decode cX2_pass 30 = .ok (.invokevirtual 307, 3) := dk_182 1 51 (dk_at dksX2_pass_1 8 rfl rfl)
theorem dX2_pass_33 : decode cX2_pass 33 = .ok (.invokevirtual 316, 3) := dk_182 1 60 (dk_at dksX2_pass_1 11 rfl rfl)
theorem dX2_pass_36 : decode cX2_pass 36 = .ok (.iinc 1 1, 3) := dk_132 1 1 (dk_at dksX2_pass_1 14 rfl rfl)
theorem dX2_pass_39 : decode cX2_pass 39 = .ok (.goto (-37), 3) := dk_167 255 219 (dk_at dksX2_pass_1 17 rfl rfl)
theorem dX2_pass_42 : decode cX2_pass 42 = .ok (.iconst 0, 1) := dk_3 (dk_at dksX2_pass_1 20 rfl rfl)
theorem dX2_pass_43 : decode cX2_pass 43 = .ok (.istore_n 1, 1) := dk_60 (dk_at dksX2_pass_1 21 rfl rfl)
theorem dX2_pass_44 : decode cX2_pass 44 = .ok (.iload_n 1, 1) := dk_27 (dk_at dksX2_pass_1 22 rfl rfl)
theorem dX2_pass_45 : decode cX2_pass 45 = .ok (.bipush 30, 2) := dk_16 30 (dk_at dksX2_pass_2 0 rfl rfl)
theorem dX2_pass_47 : decode cX2_pass 47 = .ok (.if_icmp .ge 48, 3) := dk_162 0 48 (dk_at dksX2_pass_2 2 rfl rfl)
theorem dX2_pass_50 : decode cX2_pass 50 = .ok (.aload_n 0, 1) := dk_42 (dk_at dksX2_pass_2 5 rfl rfl)
theorem dX2_pass_51 : decode cX2_pass 51 = .ok (.iload_n 1, 1) := dk_27 (dk_at dksX2_pass_2 6 rfl rfl)
theorem dX2_pass_52 : decode cX2_pass 52 = .ok (.invokevirtual 300, 3) := dk_182 1 44 (dk_at dksX2_pass_2 7 rfl rfl)
theorem dX2_pass_55 : decode cX2_pass 55 = .ok (.ifCond .eq 34, 3) := dk_153 0 34 (dk_at dksX2_pass_2 10 rfl rfl)
theorem dX2_pass_58 : decode cX2_pass 58 = .ok (.aload_n 0, 1) := dk_42 (dk_at dksX2_pass_2 13 rfl rfl)
theorem dX2_pass_59 : decode cX2_pass 59 = .ok (.getfield 7, 3) := dk_180 0 7 (dk_at dksX2_pass_2 14 rfl rfl)
theorem dX2_pass_62 : decode cX2_pass 62 = .ok (.bipush 39, 2) := dk_16 39 (dk_at dksX2_pass_2 17 rfl rfl)
theorem dX2_pass_64 : decode cX2_pass 64 = .ok (.iload_n 1, 1) := dk_27 (dk_at dksX2_pass_2 19 rfl rfl)
theorem dX2_pass_65 : decode cX2_pass 65 = .ok (.iadd, 1) := dk_96 (dk_at dksX2_pass_2 20 rfl rfl)
theorem dX2_pass_66 : decode cX2_pass 66 = .ok (.aload_n 0, 1) := dk_42 (dk_at dksX2_pass_2 21 rfl rfl)
theorem dX2_pass_67 : decode cX2_pass 67 = .ok (.getfield 7, 3) := dk_180 0 7 (dk_at dksX2_pass_3 0 rfl rfl)
theorem dX2_pass_70 : decode cX2_pass 70 = .ok (.bipush 39, 2) := dk_16 39 (dk_at dksX2_pass_3 3 rfl rfl)
theorem dX2_pass_72 : decode cX2_pass 72 = .ok (.iload_n 1, 1) := dk_27 (dk_at dksX2_pass_3 5 rfl rfl)
theorem dX2_pass_73 : decode cX2_pass 73 = .ok (.iadd, 1) := dk_96 (dk_at dksX2_pass_3 6 rfl rfl)
theorem dX2_pass_74 : decode cX2_pass 74 = .ok (.iaload, 1) := dk_46 (dk_at dksX2_pass_3 7 rfl rfl)
theorem dX2_pass_75 : decode cX2_pass 75 = .ok (.aload_n 0, 1) := dk_42 (dk_at dksX2_pass_3 8 rfl rfl)
theorem dX2_pass_76 : decode cX2_pass 76 = .ok (.iload_n 1, 1) := dk_27 (dk_at dksX2_pass_3 9 rfl rfl)
theorem dX2_pass_77 : decode cX2_pass 77 = .ok (.invokevirtual 319, 3) := dk_182 1 63 (dk_at dksX2_pass_3 10 rfl rfl)
theorem dX2_pass_80 : decode cX2_pass 80 = .ok (.iadd, 1) := dk_96 (dk_at dksX2_pass_3 13 rfl rfl)
theorem dX2_pass_81 : decode cX2_pass 81 = .ok (.i2l, 1) := dk_133 (dk_at dksX2_pass_3 14 rfl rfl)
theorem dX2_pass_82 : decode cX2_pass 82 = .ok (.iconst 0, 1) := dk_3 (dk_at dksX2_pass_3 15 rfl rfl)
theorem dX2_pass_83 : decode cX2_pass 83 = .ok (.bipush 9, 2) := dk_16 9 (dk_at dksX2_pass_3 16 rfl rfl)
theorem dX2_pass_85 : decode cX2_pass 85 = .ok (.invokestatic 281, 3) := dk_184 1 25 (dk_at dksX2_pass_3 18 rfl rfl)
theorem dX2_pass_88 : decode cX2_pass 88 = .ok (.iastore, 1) := dk_79 (dk_at dksX2_pass_3 21 rfl rfl)
theorem dX2_pass_89 : decode cX2_pass 89 = .ok (.iinc 1 1, 3) := dk_132 1 1 (dk_at dksX2_pass_4 0 rfl rfl)
theorem dX2_pass_92 : decode cX2_pass 92 = .ok (.goto (-48), 3) := dk_167 255 208 (dk_at dksX2_pass_4 3 rfl rfl)
theorem dX2_pass_95 : decode cX2_pass 95 = .ok (.aload_n 0, 1) := dk_42 (dk_at dksX2_pass_4 6 rfl rfl)
theorem dX2_pass_96 : decode cX2_pass 96 = .ok (.getfield 7, 3) := dk_180 0 7 (dk_at dksX2_pass_4 7 rfl rfl)
theorem dX2_pass_99 : decode cX2_pass 99 = .ok (.bipush 6, 2) := dk_16 6 (dk_at dksX2_pass_4 10 rfl rfl)
theorem dX2_pass_101 : decode cX2_pass 101 = .ok (.dup2, 1) := dk_92 (dk_at dksX2_pass_4 12 rfl rfl)
theorem dX2_pass_102 : decode cX2_pass 102 = .ok (.iaload, 1) := dk_46 (dk_at dksX2_pass_4 13 rfl rfl)
theorem dX2_pass_103 : decode cX2_pass 103 = .ok (.iconst 1, 1) := dk_4 (dk_at dksX2_pass_4 14 rfl rfl)
theorem dX2_pass_104 : decode cX2_pass 104 = .ok (.iadd, 1) := dk_96 (dk_at dksX2_pass_4 15 rfl rfl)
theorem dX2_pass_105 : decode cX2_pass 105 = .ok (.iastore, 1) := dk_79 (dk_at dksX2_pass_4 16 rfl rfl)
theorem dX2_pass_106 : decode cX2_pass 106 = .ok (.return_, 1) := dk_177 (dk_at dksX2_pass_4 17 rfl rfl)
abbrev cX2_paintsOf : ByteArray := prog_20_method_65_code
def yX2_paintsOf : MethodName := ⟨RX2, "paintsOf", "(I)I"⟩
def dkwX2_paintsOf_0 : List UInt8 := [42, 27, 182, 1, 29, 42, 42, 180, 0, 7, 5, 46, 4, 16, 9, 182, 1, 32, 172]
abbrev dktX2_paintsOf_0 : List UInt8 := dkwX2_paintsOf_0 ++ []
theorem dksX2_paintsOf_0 : cX2_paintsOf.data.toList.drop 0 = dktX2_paintsOf_0 := by decide +kernel
theorem dX2_paintsOf_0 : decode cX2_paintsOf 0 = .ok (.aload_n 0, 1) := dk_42 (dk_at dksX2_paintsOf_0 0 rfl rfl)
theorem dX2_paintsOf_1 : decode cX2_paintsOf 1 = .ok (.iload_n 1, 1) := dk_27 (dk_at dksX2_paintsOf_0 1 rfl rfl)
theorem dX2_paintsOf_2 : decode cX2_paintsOf 2 = .ok (.invokevirtual 285, 3) := dk_182 1 29 (dk_at dksX2_paintsOf_0 2 rfl rfl)
theorem dX2_paintsOf_5 : decode cX2_paintsOf 5 = .ok (.aload_n 0, 1) := dk_42 (dk_at dksX2_paintsOf_0 5 rfl rfl)
theorem dX2_paintsOf_6 : decode cX2_paintsOf 6 = .ok (.aload_n 0, 1) := dk_42 (dk_at dksX2_paintsOf_0 6 rfl rfl)
theorem dX2_paintsOf_7 : decode cX2_paintsOf 7 = .ok (.getfield 7, 3) := dk_180 0 7 (dk_at dksX2_paintsOf_0 7 rfl rfl)
theorem dX2_paintsOf_10 : decode cX2_paintsOf 10 = .ok (.iconst 2, 1) := dk_5 (dk_at dksX2_paintsOf_0 10 rfl rfl)
theorem dX2_paintsOf_11 : decode cX2_paintsOf 11 = .ok (.iaload, 1) := dk_46 (dk_at dksX2_paintsOf_0 11 rfl rfl)
theorem dX2_paintsOf_12 : decode cX2_paintsOf 12 = .ok (.iconst 1, 1) := dk_4 (dk_at dksX2_paintsOf_0 12 rfl rfl)
theorem dX2_paintsOf_13 : decode cX2_paintsOf 13 = .ok (.bipush 9, 2) := dk_16 9 (dk_at dksX2_paintsOf_0 13 rfl rfl)
theorem dX2_paintsOf_15 : decode cX2_paintsOf 15 = .ok (.invokevirtual 288, 3) := dk_182 1 32 (dk_at dksX2_paintsOf_0 15 rfl rfl)
theorem dX2_paintsOf_18 : decode cX2_paintsOf 18 = .ok (.ireturn, 1) := dk_172 (dk_at dksX2_paintsOf_0 18 rfl rfl)
abbrev cX2_played : ByteArray := prog_20_method_81_code
def yX2_played : MethodName := ⟨RX2, "played", "(I)I"⟩
def dkwX2_played_2 : List UInt8 := [182, 1, 102, 154, 0, 5, 28, 172, 132, 2, 1, 167, 255, 219, 2, 172]
abbrev dktX2_played_2 : List UInt8 := dkwX2_played_2 ++ []
def dkwX2_played_1 : List UInt8 := [180, 0, 16, 17, 2, 169, 27, 104, 46, 162, 0, 29, 42, 17, 2, 169, 27, 104, 4, 96, 6, 28, 104, 96]
abbrev dktX2_played_1 : List UInt8 := dkwX2_played_1 ++ dktX2_played_2
def dkwX2_played_0 : List UInt8 := [27, 3, 42, 180, 0, 7, 4, 46, 4, 100, 184, 0, 69, 154, 0, 6, 16, 254, 172, 3, 61, 28, 42]
abbrev dktX2_played_0 : List UInt8 := dkwX2_played_0 ++ dktX2_played_1
theorem dksX2_played_0 : cX2_played.data.toList.drop 0 = dktX2_played_0 := by decide +kernel
theorem dksX2_played_1 : cX2_played.data.toList.drop 23 = dktX2_played_1 := dk_seg dksX2_played_0 23 rfl rfl
theorem dksX2_played_2 : cX2_played.data.toList.drop 47 = dktX2_played_2 := dk_seg dksX2_played_1 24 rfl rfl
theorem dX2_played_0 : decode cX2_played 0 = .ok (.iload_n 1, 1) := dk_27 (dk_at dksX2_played_0 0 rfl rfl)
theorem dX2_played_1 : decode cX2_played 1 = .ok (.iconst 0, 1) := dk_3 (dk_at dksX2_played_0 1 rfl rfl)
theorem dX2_played_2 : decode cX2_played 2 = .ok (.aload_n 0, 1) := dk_42 (dk_at dksX2_played_0 2 rfl rfl)
theorem dX2_played_3 : decode cX2_played 3 = .ok (.getfield 7, 3) := dk_180 0 7 (dk_at dksX2_played_0 3 rfl rfl)
theorem dX2_played_6 : decode cX2_played 6 = .ok (.iconst 1, 1) := dk_4 (dk_at dksX2_played_0 6 rfl rfl)
theorem dX2_played_7 : decode cX2_played 7 = .ok (.iaload, 1) := dk_46 (dk_at dksX2_played_0 7 rfl rfl)
theorem dX2_played_8 : decode cX2_played 8 = .ok (.iconst 1, 1) := dk_4 (dk_at dksX2_played_0 8 rfl rfl)
theorem dX2_played_9 : decode cX2_played 9 = .ok (.isub, 1) := dk_100 (dk_at dksX2_played_0 9 rfl rfl)
theorem dX2_played_10 : decode cX2_played 10 = .ok (.invokestatic 69, 3) := dk_184 0 69 (dk_at dksX2_played_0 10 rfl rfl)
theorem dX2_played_13 : decode cX2_played 13 = .ok (.ifCond .ne 6, 3) := dk_154 0 6 (dk_at dksX2_played_0 13 rfl rfl)
theorem dX2_played_16 : decode cX2_played 16 = .ok (.bipush (-2), 2) := dk_16 254 (dk_at dksX2_played_0 16 rfl rfl)
theorem dX2_played_18 : decode cX2_played 18 = .ok (.ireturn, 1) := dk_172 (dk_at dksX2_played_0 18 rfl rfl)
theorem dX2_played_19 : decode cX2_played 19 = .ok (.iconst 0, 1) := dk_3 (dk_at dksX2_played_0 19 rfl rfl)
theorem dX2_played_20 : decode cX2_played 20 = .ok (.istore_n 2, 1) := dk_61 (dk_at dksX2_played_0 20 rfl rfl)
theorem dX2_played_21 : decode cX2_played 21 = .ok (.iload_n 2, 1) := dk_28 (dk_at dksX2_played_0 21 rfl rfl)
theorem dX2_played_22 : decode cX2_played 22 = .ok (.aload_n 0, 1) := dk_42 (dk_at dksX2_played_0 22 rfl rfl)
theorem dX2_played_23 : decode cX2_played 23 = .ok (.getfield 16, 3) := dk_180 0 16 (dk_at dksX2_played_1 0 rfl rfl)
theorem dX2_played_26 : decode cX2_played 26 = .ok (.sipush 681, 3) := dk_17 2 169 (dk_at dksX2_played_1 3 rfl rfl)
theorem dX2_played_29 : decode cX2_played 29 = .ok (.iload_n 1, 1) := dk_27 (dk_at dksX2_played_1 6 rfl rfl)
theorem dX2_played_30 : decode cX2_played 30 = .ok (.imul, 1) := dk_104 (dk_at dksX2_played_1 7 rfl rfl)
theorem dX2_played_31 : decode cX2_played 31 = .ok (.iaload, 1) := dk_46 (dk_at dksX2_played_1 8 rfl rfl)
theorem dX2_played_32 : decode cX2_played 32 = .ok (.if_icmp .ge 29, 3) := dk_162 0 29 (dk_at dksX2_played_1 9 rfl rfl)
theorem dX2_played_35 : decode cX2_played 35 = .ok (.aload_n 0, 1) := dk_42 (dk_at dksX2_played_1 12 rfl rfl)
theorem dX2_played_36 : decode cX2_played 36 = .ok (.sipush 681, 3) := dk_17 2 169 (dk_at dksX2_played_1 13 rfl rfl)
theorem dX2_played_39 : decode cX2_played 39 = .ok (.iload_n 1, 1) := dk_27 (dk_at dksX2_played_1 16 rfl rfl)
theorem dX2_played_40 : decode cX2_played 40 = .ok (.imul, 1) := dk_104 (dk_at dksX2_played_1 17 rfl rfl)
theorem dX2_played_41 : decode cX2_played 41 = .ok (.iconst 1, 1) := dk_4 (dk_at dksX2_played_1 18 rfl rfl)
theorem dX2_played_42 : decode cX2_played 42 = .ok (.iadd, 1) := dk_96 (dk_at dksX2_played_1 19 rfl rfl)
theorem dX2_played_43 : decode cX2_played 43 = .ok (.iconst 3, 1) := dk_6 (dk_at dksX2_played_1 20 rfl rfl)
theorem dX2_played_44 : decode cX2_played 44 = .ok (.iload_n 2, 1) := dk_28 (dk_at dksX2_played_1 21 rfl rfl)
theorem dX2_played_45 : decode cX2_played 45 = .ok (.imul, 1) := dk_104 (dk_at dksX2_played_1 22 rfl rfl)
theorem dX2_played_46 : decode cX2_played 46 = .ok (.iadd, 1) := dk_96 (dk_at dksX2_played_1 23 rfl rfl)
theorem dX2_played_47 : decode cX2_played 47 = .ok (.invokevirtual 358, 3) := dk_182 1 102 (dk_at dksX2_played_2 0 rfl rfl)
theorem dX2_played_50 : decode cX2_played 50 = .ok (.ifCond .ne 5, 3) := dk_154 0 5 (dk_at dksX2_played_2 3 rfl rfl)
theorem dX2_played_53 : decode cX2_played 53 = .ok (.iload_n 2, 1) := dk_28 (dk_at dksX2_played_2 6 rfl rfl)
theorem dX2_played_54 : decode cX2_played 54 = .ok (.ireturn, 1) := dk_172 (dk_at dksX2_played_2 7 rfl rfl)
theorem dX2_played_55 : decode cX2_played 55 = .ok (.iinc 2 1, 3) := dk_132 2 1 (dk_at dksX2_played_2 8 rfl rfl)
theorem dX2_played_58 : decode cX2_played 58 = .ok (.goto (-37), 3) := dk_167 255 219 (dk_at dksX2_played_2 11 rfl rfl)
theorem dX2_played_61 : decode cX2_played 61 = .ok (.iconst (-1), 1) := dk_2 (dk_at dksX2_played_2 14 rfl rfl)
theorem dX2_played_62 : decode cX2_played 62 = .ok (.ireturn, 1) := dk_172 (dk_at dksX2_played_2 15 rfl rfl)
abbrev cX2_isPlayed : ByteArray := prog_20_method_80_code
def yX2_isPlayed : MethodName := ⟨RX2, "isPlayed", "(I)Z"⟩
def dkwX2_isPlayed_4 : List UInt8 := [182, 1, 96, 172, 42, 28, 182, 1, 99, 172, 42, 28, 182, 1, 81, 172, 4, 172]
abbrev dktX2_isPlayed_4 : List UInt8 := dkwX2_isPlayed_4 ++ []
def dkwX2_isPlayed_3 : List UInt8 := [167, 0, 4, 3, 172, 42, 28, 29, 182, 1, 93, 155, 0, 7, 4, 167, 0, 4, 3, 172, 42, 28]
abbrev dktX2_isPlayed_3 : List UInt8 := dkwX2_isPlayed_3 ++ dktX2_isPlayed_4
def dkwX2_isPlayed_2 : List UInt8 := [42, 28, 29, 182, 1, 84, 172, 42, 29, 28, 182, 1, 87, 172, 42, 28, 29, 182, 1, 90, 155, 0, 7, 4]
abbrev dktX2_isPlayed_2 : List UInt8 := dkwX2_isPlayed_2 ++ dktX2_isPlayed_3
def dkwX2_isPlayed_1 : List UInt8 := [170, 0, 0, 0, 0, 0, 0, 106, 0, 0, 0, 2, 0, 0, 0, 8, 0, 0, 0, 44, 0, 0, 0, 51, 0, 0, 0, 58, 0, 0, 0, 73, 0, 0, 0, 88, 0, 0, 0, 94, 0, 0, 0, 100]
abbrev dktX2_isPlayed_1 : List UInt8 := dkwX2_isPlayed_1 ++ dktX2_isPlayed_2
def dkwX2_isPlayed_0 : List UInt8 := [42, 180, 0, 16, 27, 4, 96, 46, 61, 42, 180, 0, 16, 27, 5, 96, 46, 62, 42, 180, 0, 16, 27, 46]
abbrev dktX2_isPlayed_0 : List UInt8 := dkwX2_isPlayed_0 ++ dktX2_isPlayed_1
theorem dksX2_isPlayed_0 : cX2_isPlayed.data.toList.drop 0 = dktX2_isPlayed_0 := by decide +kernel
theorem dksX2_isPlayed_1 : cX2_isPlayed.data.toList.drop 24 = dktX2_isPlayed_1 := dk_seg dksX2_isPlayed_0 24 rfl rfl
theorem dksX2_isPlayed_2 : cX2_isPlayed.data.toList.drop 68 = dktX2_isPlayed_2 := dk_seg dksX2_isPlayed_1 44 rfl rfl
theorem dksX2_isPlayed_3 : cX2_isPlayed.data.toList.drop 92 = dktX2_isPlayed_3 := dk_seg dksX2_isPlayed_2 24 rfl rfl
theorem dksX2_isPlayed_4 : cX2_isPlayed.data.toList.drop 114 = dktX2_isPlayed_4 := dk_seg dksX2_isPlayed_3 22 rfl rfl
theorem dX2_isPlayed_0 : decode cX2_isPlayed 0 = .ok (.aload_n 0, 1) := dk_42 (dk_at dksX2_isPlayed_0 0 rfl rfl)
theorem dX2_isPlayed_1 : decode cX2_isPlayed 1 = .ok (.getfield 16, 3) := dk_180 0 16 (dk_at dksX2_isPlayed_0 1 rfl rfl)
theorem dX2_isPlayed_4 : decode cX2_isPlayed 4 = .ok (.iload_n 1, 1) := dk_27 (dk_at dksX2_isPlayed_0 4 rfl rfl)
theorem dX2_isPlayed_5 : decode cX2_isPlayed 5 = .ok (.iconst 1, 1) := dk_4 (dk_at dksX2_isPlayed_0 5 rfl rfl)
theorem dX2_isPlayed_6 : decode cX2_isPlayed 6 = .ok (.iadd, 1) := dk_96 (dk_at dksX2_isPlayed_0 6 rfl rfl)
theorem dX2_isPlayed_7 : decode cX2_isPlayed 7 = .ok (.iaload, 1) := dk_46 (dk_at dksX2_isPlayed_0 7 rfl rfl)
theorem dX2_isPlayed_8 : decode cX2_isPlayed 8 = .ok (.istore_n 2, 1) := dk_61 (dk_at dksX2_isPlayed_0 8 rfl rfl)
theorem dX2_isPlayed_9 : decode cX2_isPlayed 9 = .ok (.aload_n 0, 1) := dk_42 (dk_at dksX2_isPlayed_0 9 rfl rfl)
theorem dX2_isPlayed_10 : decode cX2_isPlayed 10 = .ok (.getfield 16, 3) := dk_180 0 16 (dk_at dksX2_isPlayed_0 10 rfl rfl)
theorem dX2_isPlayed_13 : decode cX2_isPlayed 13 = .ok (.iload_n 1, 1) := dk_27 (dk_at dksX2_isPlayed_0 13 rfl rfl)
theorem dX2_isPlayed_14 : decode cX2_isPlayed 14 = .ok (.iconst 2, 1) := dk_5 (dk_at dksX2_isPlayed_0 14 rfl rfl)
theorem dX2_isPlayed_15 : decode cX2_isPlayed 15 = .ok (.iadd, 1) := dk_96 (dk_at dksX2_isPlayed_0 15 rfl rfl)
theorem dX2_isPlayed_16 : decode cX2_isPlayed 16 = .ok (.iaload, 1) := dk_46 (dk_at dksX2_isPlayed_0 16 rfl rfl)
theorem dX2_isPlayed_17 : decode cX2_isPlayed 17 = .ok (.istore_n 3, 1) := dk_62 (dk_at dksX2_isPlayed_0 17 rfl rfl)
theorem dX2_isPlayed_18 : decode cX2_isPlayed 18 = .ok (.aload_n 0, 1) := dk_42 (dk_at dksX2_isPlayed_0 18 rfl rfl)
theorem dX2_isPlayed_19 : decode cX2_isPlayed 19 = .ok (.getfield 16, 3) := dk_180 0 16 (dk_at dksX2_isPlayed_0 19 rfl rfl)
theorem dX2_isPlayed_22 : decode cX2_isPlayed 22 = .ok (.iload_n 1, 1) := dk_27 (dk_at dksX2_isPlayed_0 22 rfl rfl)
theorem dX2_isPlayed_23 : decode cX2_isPlayed 23 = .ok (.iaload, 1) := dk_46 (dk_at dksX2_isPlayed_0 23 rfl rfl)
theorem dX2_isPlayed_24 : decode cX2_isPlayed 24 = .ok (.tableswitch 106 2 8 #[44, 51, 58, 73, 88, 94, 100], 44) := by decide +kernel
theorem dX2_isPlayed_68 : decode cX2_isPlayed 68 = .ok (.aload_n 0, 1) := dk_42 (dk_at dksX2_isPlayed_2 0 rfl rfl)
theorem dX2_isPlayed_69 : decode cX2_isPlayed 69 = .ok (.iload_n 2, 1) := dk_28 (dk_at dksX2_isPlayed_2 1 rfl rfl)
theorem dX2_isPlayed_70 : decode cX2_isPlayed 70 = .ok (.iload_n 3, 1) := dk_29 (dk_at dksX2_isPlayed_2 2 rfl rfl)
theorem dX2_isPlayed_71 : decode cX2_isPlayed 71 = .ok (.invokevirtual 340, 3) := dk_182 1 84 (dk_at dksX2_isPlayed_2 3 rfl rfl)
theorem dX2_isPlayed_74 : decode cX2_isPlayed 74 = .ok (.ireturn, 1) := dk_172 (dk_at dksX2_isPlayed_2 6 rfl rfl)
theorem dX2_isPlayed_75 : decode cX2_isPlayed 75 = .ok (.aload_n 0, 1) := dk_42 (dk_at dksX2_isPlayed_2 7 rfl rfl)
theorem dX2_isPlayed_76 : decode cX2_isPlayed 76 = .ok (.iload_n 3, 1) := dk_29 (dk_at dksX2_isPlayed_2 8 rfl rfl)
theorem dX2_isPlayed_77 : decode cX2_isPlayed 77 = .ok (.iload_n 2, 1) := dk_28 (dk_at dksX2_isPlayed_2 9 rfl rfl)
theorem dX2_isPlayed_78 : decode cX2_isPlayed 78 = .ok (.invokevirtual 343, 3) := dk_182 1 87 (dk_at dksX2_isPlayed_2 10 rfl rfl)
theorem dX2_isPlayed_81 : decode cX2_isPlayed 81 = .ok (.ireturn, 1) := dk_172 (dk_at dksX2_isPlayed_2 13 rfl rfl)
theorem dX2_isPlayed_82 : decode cX2_isPlayed 82 = .ok (.aload_n 0, 1) := dk_42 (dk_at dksX2_isPlayed_2 14 rfl rfl)
theorem dX2_isPlayed_83 : decode cX2_isPlayed 83 = .ok (.iload_n 2, 1) := dk_28 (dk_at dksX2_isPlayed_2 15 rfl rfl)
theorem dX2_isPlayed_84 : decode cX2_isPlayed 84 = .ok (.iload_n 3, 1) := dk_29 (dk_at dksX2_isPlayed_2 16 rfl rfl)
theorem dX2_isPlayed_85 : decode cX2_isPlayed 85 = .ok (.invokevirtual 346, 3) := dk_182 1 90 (dk_at dksX2_isPlayed_2 17 rfl rfl)
theorem dX2_isPlayed_88 : decode cX2_isPlayed 88 = .ok (.ifCond .lt 7, 3) := dk_155 0 7 (dk_at dksX2_isPlayed_2 20 rfl rfl)
theorem dX2_isPlayed_91 : decode cX2_isPlayed 91 = .ok (.iconst 1, 1) := dk_4 (dk_at dksX2_isPlayed_2 23 rfl rfl)
theorem dX2_isPlayed_92 : decode cX2_isPlayed 92 = .ok (.goto 4, 3) := dk_167 0 4 (dk_at dksX2_isPlayed_3 0 rfl rfl)
theorem dX2_isPlayed_95 : decode cX2_isPlayed 95 = .ok (.iconst 0, 1) := dk_3 (dk_at dksX2_isPlayed_3 3 rfl rfl)
theorem dX2_isPlayed_96 : decode cX2_isPlayed 96 = .ok (.ireturn, 1) := dk_172 (dk_at dksX2_isPlayed_3 4 rfl rfl)
theorem dX2_isPlayed_97 : decode cX2_isPlayed 97 = .ok (.aload_n 0, 1) := dk_42 (dk_at dksX2_isPlayed_3 5 rfl rfl)
theorem dX2_isPlayed_98 : decode cX2_isPlayed 98 = .ok (.iload_n 2, 1) := dk_28 (dk_at dksX2_isPlayed_3 6 rfl rfl)
theorem dX2_isPlayed_99 : decode cX2_isPlayed 99 = .ok (.iload_n 3, 1) := dk_29 (dk_at dksX2_isPlayed_3 7 rfl rfl)
theorem dX2_isPlayed_100 : decode cX2_isPlayed 100 = .ok (.invokevirtual 349, 3) := dk_182 1 93 (dk_at dksX2_isPlayed_3 8 rfl rfl)
theorem dX2_isPlayed_103 : decode cX2_isPlayed 103 = .ok (.ifCond .lt 7, 3) := dk_155 0 7 (dk_at dksX2_isPlayed_3 11 rfl rfl)
theorem dX2_isPlayed_106 : decode cX2_isPlayed 106 = .ok (.iconst 1, 1) := dk_4 (dk_at dksX2_isPlayed_3 14 rfl rfl)
theorem dX2_isPlayed_107 : decode cX2_isPlayed 107 = .ok (.goto 4, 3) := dk_167 0 4 (dk_at dksX2_isPlayed_3 15 rfl rfl)
theorem dX2_isPlayed_110 : decode cX2_isPlayed 110 = .ok (.iconst 0, 1) := dk_3 (dk_at dksX2_isPlayed_3 18 rfl rfl)
theorem dX2_isPlayed_111 : decode cX2_isPlayed 111 = .ok (.ireturn, 1) := dk_172 (dk_at dksX2_isPlayed_3 19 rfl rfl)
theorem dX2_isPlayed_112 : decode cX2_isPlayed 112 = .ok (.aload_n 0, 1) := dk_42 (dk_at dksX2_isPlayed_3 20 rfl rfl)
theorem dX2_isPlayed_113 : decode cX2_isPlayed 113 = .ok (.iload_n 2, 1) := dk_28 (dk_at dksX2_isPlayed_3 21 rfl rfl)
theorem dX2_isPlayed_114 : decode cX2_isPlayed 114 = .ok (.invokevirtual 352, 3) := dk_182 1 96 (dk_at dksX2_isPlayed_4 0 rfl rfl)
theorem dX2_isPlayed_117 : decode cX2_isPlayed 117 = .ok (.ireturn, 1) := dk_172 (dk_at dksX2_isPlayed_4 3 rfl rfl)
theorem dX2_isPlayed_118 : decode cX2_isPlayed 118 = .ok (.aload_n 0, 1) := dk_42 (dk_at dksX2_isPlayed_4 4 rfl rfl)
theorem dX2_isPlayed_119 : decode cX2_isPlayed 119 = .ok (.iload_n 2, 1) := dk_28 (dk_at dksX2_isPlayed_4 5 rfl rfl)
theorem dX2_isPlayed_120 : decode cX2_isPlayed 120 = .ok (.invokevirtual 355, 3) := dk_182 1 99 (dk_at dksX2_isPlayed_4 6 rfl rfl)
theorem dX2_isPlayed_123 : decode cX2_isPlayed 123 = .ok (.ireturn, 1) := dk_172 (dk_at dksX2_isPlayed_4 9 rfl rfl)
theorem dX2_isPlayed_124 : decode cX2_isPlayed 124 = .ok (.aload_n 0, 1) := dk_42 (dk_at dksX2_isPlayed_4 10 rfl rfl)
theorem dX2_isPlayed_125 : decode cX2_isPlayed 125 = .ok (.iload_n 2, 1) := dk_28 (dk_at dksX2_isPlayed_4 11 rfl rfl)
theorem dX2_isPlayed_126 : decode cX2_isPlayed 126 = .ok (.invokevirtual 337, 3) := dk_182 1 81 (dk_at dksX2_isPlayed_4 12 rfl rfl)
theorem dX2_isPlayed_129 : decode cX2_isPlayed 129 = .ok (.ireturn, 1) := dk_172 (dk_at dksX2_isPlayed_4 15 rfl rfl)
theorem dX2_isPlayed_130 : decode cX2_isPlayed 130 = .ok (.iconst 1, 1) := dk_4 (dk_at dksX2_isPlayed_4 16 rfl rfl)
theorem dX2_isPlayed_131 : decode cX2_isPlayed 131 = .ok (.ireturn, 1) := dk_172 (dk_at dksX2_isPlayed_4 17 rfl rfl)
abbrev cX2_ages : ByteArray := prog_20_method_83_code
def yX2_ages : MethodName := ⟨RX2, "ages", "(II)I"⟩
def dkwX2_ages_3 : List UInt8 := [167, 255, 229, 42, 180, 0, 7, 16, 6, 46, 172]
abbrev dktX2_ages_3 : List UInt8 := dkwX2_ages_3 ++ []
def dkwX2_ages_2 : List UInt8 := [42, 180, 0, 7, 16, 7, 46, 54, 4, 42, 182, 1, 35, 42, 21, 4, 182, 1, 105, 132, 3, 1]
abbrev dktX2_ages_2 : List UInt8 := dkwX2_ages_2 ++ dktX2_ages_3
def dkwX2_ages_1 : List UInt8 := [182, 1, 72, 42, 180, 0, 7, 16, 7, 27, 5, 104, 17, 1, 7, 96, 79, 3, 62, 29, 28, 162, 0, 28]
abbrev dktX2_ages_1 : List UInt8 := dkwX2_ages_1 ++ dktX2_ages_2
def dkwX2_ages_0 : List UInt8 := [27, 3, 17, 39, 15, 184, 0, 69, 153, 0, 13, 28, 4, 16, 40, 184, 0, 69, 154, 0, 5, 2, 172, 42]
abbrev dktX2_ages_0 : List UInt8 := dkwX2_ages_0 ++ dktX2_ages_1
theorem dksX2_ages_0 : cX2_ages.data.toList.drop 0 = dktX2_ages_0 := by decide +kernel
theorem dksX2_ages_1 : cX2_ages.data.toList.drop 24 = dktX2_ages_1 := dk_seg dksX2_ages_0 24 rfl rfl
theorem dksX2_ages_2 : cX2_ages.data.toList.drop 48 = dktX2_ages_2 := dk_seg dksX2_ages_1 24 rfl rfl
theorem dksX2_ages_3 : cX2_ages.data.toList.drop 70 = dktX2_ages_3 := dk_seg dksX2_ages_2 22 rfl rfl
theorem dX2_ages_0 : decode cX2_ages 0 = .ok (.iload_n 1, 1) := dk_27 (dk_at dksX2_ages_0 0 rfl rfl)
theorem dX2_ages_1 : decode cX2_ages 1 = .ok (.iconst 0, 1) := dk_3 (dk_at dksX2_ages_0 1 rfl rfl)
theorem dX2_ages_2 : decode cX2_ages 2 = .ok (.sipush 9999, 3) := dk_17 39 15 (dk_at dksX2_ages_0 2 rfl rfl)
theorem dX2_ages_5 : decode cX2_ages 5 = .ok (.invokestatic 69, 3) := dk_184 0 69 (dk_at dksX2_ages_0 5 rfl rfl)
theorem dX2_ages_8 : decode cX2_ages 8 = .ok (.ifCond .eq 13, 3) := dk_153 0 13 (dk_at dksX2_ages_0 8 rfl rfl)
theorem dX2_ages_11 : decode cX2_ages 11 = .ok (.iload_n 2, 1) := dk_28 (dk_at dksX2_ages_0 11 rfl rfl)
theorem dX2_ages_12 : decode cX2_ages 12 = .ok (.iconst 1, 1) := dk_4 (dk_at dksX2_ages_0 12 rfl rfl)
theorem dX2_ages_13 : decode cX2_ages 13 = .ok (.bipush 40, 2) := dk_16 40 (dk_at dksX2_ages_0 13 rfl rfl)
theorem dX2_ages_15 : decode cX2_ages 15 = .ok (.invokestatic 69, 3) := dk_184 0 69 (dk_at dksX2_ages_0 15 rfl rfl)
theorem dX2_ages_18 : decode cX2_ages 18 = .ok (.ifCond .ne 5, 3) := dk_154 0 5 (dk_at dksX2_ages_0 18 rfl rfl)
theorem dX2_ages_21 : decode cX2_ages 21 = .ok (.iconst (-1), 1) := dk_2 (dk_at dksX2_ages_0 21 rfl rfl)
theorem dX2_ages_22 : decode cX2_ages 22 = .ok (.ireturn, 1) := dk_172 (dk_at dksX2_ages_0 22 rfl rfl)
theorem dX2_ages_23 : decode cX2_ages 23 = .ok (.aload_n 0, 1) := dk_42 (dk_at dksX2_ages_0 23 rfl rfl)
theorem dX2_ages_24 : decode cX2_ages 24 = .ok (.invokevirtual 328, 3) := dk_182 1 72 (dk_at dksX2_ages_1 0 rfl rfl)
theorem dX2_ages_27 : decode cX2_ages 27 = .ok (.aload_n 0, 1) := dk_42 (dk_at dksX2_ages_1 3 rfl rfl)
theorem dX2_ages_28 : decode cX2_ages 28 = .ok (.getfield 7, 3) := dk_180 0 7 (dk_at dksX2_ages_1 4 rfl rfl)
theorem dX2_ages_31 : decode cX2_ages 31 = .ok (.bipush 7, 2) := dk_16 7 (dk_at dksX2_ages_1 7 rfl rfl)
theorem dX2_ages_33 : decode cX2_ages 33 = .ok (.iload_n 1, 1) := dk_27 (dk_at dksX2_ages_1 9 rfl rfl)
theorem dX2_ages_34 : decode cX2_ages 34 = .ok (.iconst 2, 1) := dk_5 (dk_at dksX2_ages_1 10 rfl rfl)
theorem dX2_ages_35 : decode cX2_ages 35 = .ok (.imul, 1) := dk_104 (dk_at dksX2_ages_1 11 rfl rfl)
theorem dX2_ages_36 : decode cX2_ages 36 = .ok (.sipush 263, 3) := dk_17 1 7 (dk_at dksX2_ages_1 12 rfl rfl)
theorem dX2_ages_39 : decode cX2_ages 39 = .ok (.iadd, 1) := dk_96 (dk_at dksX2_ages_1 15 rfl rfl)
theorem dX2_ages_40 : decode cX2_ages 40 = .ok (.iastore, 1) := dk_79 (dk_at dksX2_ages_1 16 rfl rfl)
theorem dX2_ages_41 : decode cX2_ages 41 = .ok (.iconst 0, 1) := dk_3 (dk_at dksX2_ages_1 17 rfl rfl)
theorem dX2_ages_42 : decode cX2_ages 42 = .ok (.istore_n 3, 1) := dk_62 (dk_at dksX2_ages_1 18 rfl rfl)
theorem dX2_ages_43 : decode cX2_ages 43 = .ok (.iload_n 3, 1) := dk_29 (dk_at dksX2_ages_1 19 rfl rfl)
theorem dX2_ages_44 : decode cX2_ages 44 = .ok (.iload_n 2, 1) := dk_28 (dk_at dksX2_ages_1 20 rfl rfl)
theorem dX2_ages_45 : decode cX2_ages 45 = .ok (.if_icmp .ge 28, 3) := dk_162 0 28 (dk_at dksX2_ages_1 21 rfl rfl)
theorem dX2_ages_48 : decode cX2_ages 48 = .ok (.aload_n 0, 1) := dk_42 (dk_at dksX2_ages_2 0 rfl rfl)
theorem dX2_ages_49 : decode cX2_ages 49 = .ok (.getfield 7, 3) := dk_180 0 7 (dk_at dksX2_ages_2 1 rfl rfl)
theorem dX2_ages_52 : decode cX2_ages 52 = .ok (.bipush 7, 2) := dk_16 7 (dk_at dksX2_ages_2 4 rfl rfl)
theorem dX2_ages_54 : decode cX2_ages 54 = .ok (.iaload, 1) := dk_46 (dk_at dksX2_ages_2 6 rfl rfl)
theorem dX2_ages_55 : decode cX2_ages 55 = .ok (.istore 4, 2) := dk_54 4 (dk_at dksX2_ages_2 7 rfl rfl)
theorem dX2_ages_57 : decode cX2_ages 57 = .ok (.aload_n 0, 1) := dk_42 (dk_at dksX2_ages_2 9 rfl rfl)
theorem dX2_ages_58 : decode cX2_ages 58 = .ok (.invokevirtual 291, 3) := dk_182 1 35 (dk_at dksX2_ages_2 10 rfl rfl)
theorem dX2_ages_61 : decode cX2_ages 61 = .ok (.aload_n 0, 1) := dk_42 (dk_at dksX2_ages_2 13 rfl rfl)
theorem dX2_ages_62 : decode cX2_ages 62 = .ok (.iload 4, 2) := dk_21 4 (dk_at dksX2_ages_2 14 rfl rfl)
theorem dX2_ages_64 : decode cX2_ages 64 = .ok (.invokevirtual 361, 3) := dk_182 1 105 (dk_at dksX2_ages_2 16 rfl rfl)
theorem dX2_ages_67 : decode cX2_ages 67 = .ok (.iinc 3 1, 3) := dk_132 3 1 (dk_at dksX2_ages_2 19 rfl rfl)
theorem dX2_ages_70 : decode cX2_ages 70 = .ok (.goto (-27), 3) := dk_167 255 229 (dk_at dksX2_ages_3 0 rfl rfl)
theorem dX2_ages_73 : decode cX2_ages 73 = .ok (.aload_n 0, 1) := dk_42 (dk_at dksX2_ages_3 3 rfl rfl)
theorem dX2_ages_74 : decode cX2_ages 74 = .ok (.getfield 7, 3) := dk_180 0 7 (dk_at dksX2_ages_3 4 rfl rfl)
theorem dX2_ages_77 : decode cX2_ages 77 = .ok (.bipush 6, 2) := dk_16 6 (dk_at dksX2_ages_3 7 rfl rfl)
theorem dX2_ages_79 : decode cX2_ages 79 = .ok (.iaload, 1) := dk_46 (dk_at dksX2_ages_3 9 rfl rfl)
theorem dX2_ages_80 : decode cX2_ages 80 = .ok (.ireturn, 1) := dk_172 (dk_at dksX2_ages_3 10 rfl rfl)
abbrev cX2_happens : ByteArray := prog_20_method_82_code
def yX2_happens : MethodName := ⟨RX2, "happens", "(I)V"⟩
def dkwX2_happens_6 : List UInt8 := [42, 182, 1, 78, 177]
abbrev dktX2_happens_6 : List UInt8 := dkwX2_happens_6 ++ []
def dkwX2_happens_5 : List UInt8 := [154, 0, 28, 42, 28, 182, 1, 75, 167, 0, 20, 42, 180, 0, 7, 16, 6, 46, 17, 39, 15, 162, 0, 7]
abbrev dktX2_happens_5 : List UInt8 := dkwX2_happens_5 ++ dktX2_happens_6
def dkwX2_happens_4 : List UInt8 := [42, 180, 0, 7, 16, 9, 28, 96, 3, 79, 167, 0, 40, 42, 180, 0, 7, 16, 9, 28, 96, 46]
abbrev dktX2_happens_4 : List UInt8 := dkwX2_happens_4 ++ dktX2_happens_5
def dkwX2_happens_3 : List UInt8 := [42, 27, 42, 180, 0, 7, 3, 46, 112, 28, 182, 1, 60, 167, 0, 61, 42, 28, 182, 1, 44, 153, 0, 53]
abbrev dktX2_happens_3 : List UInt8 := dkwX2_happens_3 ++ dktX2_happens_4
def dkwX2_happens_2 : List UInt8 := [42, 180, 0, 7, 3, 46, 158, 0, 92, 42, 27, 42, 180, 0, 7, 3, 46, 112, 182, 1, 69, 153, 0, 77]
abbrev dktX2_happens_2 : List UInt8 := dkwX2_happens_2 ++ dktX2_happens_3
def dkwX2_happens_1 : List UInt8 := [170, 0, 0, 0, 0, 0, 0, 113, 0, 0, 0, 0, 0, 0, 0, 3, 0, 0, 0, 32, 0, 0, 0, 32, 0, 0, 0, 72, 0, 0, 0, 93]
abbrev dktX2_happens_1 : List UInt8 := dkwX2_happens_1 ++ dktX2_happens_2
def dkwX2_happens_0 : List UInt8 := [27, 16, 6, 108, 16, 30, 112, 61, 27, 16, 6, 112]
abbrev dktX2_happens_0 : List UInt8 := dkwX2_happens_0 ++ dktX2_happens_1
theorem dksX2_happens_0 : cX2_happens.data.toList.drop 0 = dktX2_happens_0 := by decide +kernel
theorem dksX2_happens_1 : cX2_happens.data.toList.drop 12 = dktX2_happens_1 := dk_seg dksX2_happens_0 12 rfl rfl
theorem dksX2_happens_2 : cX2_happens.data.toList.drop 44 = dktX2_happens_2 := dk_seg dksX2_happens_1 32 rfl rfl
theorem dksX2_happens_3 : cX2_happens.data.toList.drop 68 = dktX2_happens_3 := dk_seg dksX2_happens_2 24 rfl rfl
theorem dksX2_happens_4 : cX2_happens.data.toList.drop 92 = dktX2_happens_4 := dk_seg dksX2_happens_3 24 rfl rfl
theorem dksX2_happens_5 : cX2_happens.data.toList.drop 114 = dktX2_happens_5 := dk_seg dksX2_happens_4 22 rfl rfl
theorem dksX2_happens_6 : cX2_happens.data.toList.drop 138 = dktX2_happens_6 := dk_seg dksX2_happens_5 24 rfl rfl
theorem dX2_happens_0 : decode cX2_happens 0 = .ok (.iload_n 1, 1) := dk_27 (dk_at dksX2_happens_0 0 rfl rfl)
theorem dX2_happens_1 : decode cX2_happens 1 = .ok (.bipush 6, 2) := dk_16 6 (dk_at dksX2_happens_0 1 rfl rfl)
theorem dX2_happens_3 : decode cX2_happens 3 = .ok (.idiv, 1) := dk_108 (dk_at dksX2_happens_0 3 rfl rfl)
theorem dX2_happens_4 : decode cX2_happens 4 = .ok (.bipush 30, 2) := dk_16 30 (dk_at dksX2_happens_0 4 rfl rfl)
theorem dX2_happens_6 : decode cX2_happens 6 = .ok (.irem, 1) := dk_112 (dk_at dksX2_happens_0 6 rfl rfl)
theorem dX2_happens_7 : decode cX2_happens 7 = .ok (.istore_n 2, 1) := dk_61 (dk_at dksX2_happens_0 7 rfl rfl)
theorem dX2_happens_8 : decode cX2_happens 8 = .ok (.iload_n 1, 1) := dk_27 (dk_at dksX2_happens_0 8 rfl rfl)
theorem dX2_happens_9 : decode cX2_happens 9 = .ok (.bipush 6, 2) := dk_16 6 (dk_at dksX2_happens_0 9 rfl rfl)
theorem dX2_happens_11 : decode cX2_happens 11 = .ok (.irem, 1) := dk_112 (dk_at dksX2_happens_0 11 rfl rfl)
theorem dX2_happens_12 : decode cX2_happens 12 = .ok (.tableswitch 113 0 3 #[32, 32, 72, 93], 32) := by decide +kernel
theorem dX2_happens_44 : decode cX2_happens 44 = .ok (.aload_n 0, 1) := dk_42 (dk_at dksX2_happens_2 0 rfl rfl)
theorem dX2_happens_45 : decode cX2_happens 45 = .ok (.getfield 7, 3) := dk_180 0 7 (dk_at dksX2_happens_2 1 rfl rfl)
theorem dX2_happens_48 : decode cX2_happens 48 = .ok (.iconst 0, 1) := dk_3 (dk_at dksX2_happens_2 4 rfl rfl)
theorem dX2_happens_49 : decode cX2_happens 49 = .ok (.iaload, 1) := dk_46 (dk_at dksX2_happens_2 5 rfl rfl)
theorem dX2_happens_50 : decode cX2_happens 50 = .ok (.ifCond .le 92, 3) := dk_158 0 92 (dk_at dksX2_happens_2 6 rfl rfl)
theorem dX2_happens_53 : decode cX2_happens 53 = .ok (.aload_n 0, 1) := dk_42 (dk_at dksX2_happens_2 9 rfl rfl)
theorem dX2_happens_54 : decode cX2_happens 54 = .ok (.iload_n 1, 1) := dk_27 (dk_at dksX2_happens_2 10 rfl rfl)
theorem dX2_happens_55 : decode cX2_happens 55 = .ok (.aload_n 0, 1) := dk_42 (dk_at dksX2_happens_2 11 rfl rfl)
theorem dX2_happens_56 : decode cX2_happens 56 = .ok (.getfield 7, 3) := dk_180 0 7 (dk_at dksX2_happens_2 12 rfl rfl)
theorem dX2_happens_59 : decode cX2_happens 59 = .ok (.iconst 0, 1) := dk_3 (dk_at dksX2_happens_2 15 rfl rfl)
theorem dX2_happens_60 : decode cX2_happens 60 = .ok (.iaload, 1) := dk_46 (dk_at dksX2_happens_2 16 rfl rfl)
theorem dX2_happens_61 : decode cX2_happens 61 = .ok (.irem, 1) := dk_112 (dk_at dksX2_happens_2 17 rfl rfl)
theorem dX2_happens_62 : decode cX2_happens 62 = .ok (.invokevirtual 325, 3) := dk_182 1 69 (dk_at dksX2_happens_2 18 rfl rfl)
theorem dX2_happens_65 : decode cX2_happens 65 = .ok (.ifCond .eq 77, 3) := dk_153 0 77 (dk_at dksX2_happens_2 21 rfl rfl)
theorem dX2_happens_68 : decode cX2_happens 68 = .ok (.aload_n 0, 1) := dk_42 (dk_at dksX2_happens_3 0 rfl rfl)
theorem dX2_happens_69 : decode cX2_happens 69 = .ok (.iload_n 1, 1) := dk_27 (dk_at dksX2_happens_3 1 rfl rfl)
theorem dX2_happens_70 : decode cX2_happens 70 = .ok (.aload_n 0, 1) := dk_42 (dk_at dksX2_happens_3 2 rfl rfl)
theorem dX2_happens_71 : decode cX2_happens 71 = .ok (.getfield 7, 3) := dk_180 0 7 (dk_at dksX2_happens_3 3 rfl rfl)
theorem dX2_happens_74 : decode cX2_happens 74 = .ok (.iconst 0, 1) := dk_3 (dk_at dksX2_happens_3 6 rfl rfl)
theorem dX2_happens_75 : decode cX2_happens 75 = .ok (.iaload, 1) := dk_46 (dk_at dksX2_happens_3 7 rfl rfl)
theorem dX2_happens_76 : decode cX2_happens 76 = .ok (.irem, 1) := dk_112 (dk_at dksX2_happens_3 8 rfl rfl)
theorem dX2_happens_77 : decode cX2_happens 77 = .ok (.iload_n 2, 1) := dk_28 (dk_at dksX2_happens_3 9 rfl rfl)
theorem dX2_happens_78 : decode cX2_happens 78 = .ok (.invokevirtual 316, 3) := dk_182 1 60 (dk_at dksX2_happens_3 10 rfl rfl)
theorem dX2_happens_81 : decode cX2_happens 81 = .ok (.goto 61, 3) := dk_167 0 61 (dk_at dksX2_happens_3 13 rfl rfl)
theorem dX2_happens_84 : decode cX2_happens 84 = .ok (.aload_n 0, 1) := dk_42 (dk_at dksX2_happens_3 16 rfl rfl)
theorem dX2_happens_85 : decode cX2_happens 85 = .ok (.iload_n 2, 1) := dk_28 (dk_at dksX2_happens_3 17 rfl rfl)
theorem dX2_happens_86 : decode cX2_happens 86 = .ok (.invokevirtual 300, 3) := dk_182 1 44 (dk_at dksX2_happens_3 18 rfl rfl)
theorem dX2_happens_89 : decode cX2_happens 89 = .ok (.ifCond .eq 53, 3) := dk_153 0 53 (dk_at dksX2_happens_3 21 rfl rfl)
theorem dX2_happens_92 : decode cX2_happens 92 = .ok (.aload_n 0, 1) := dk_42 (dk_at dksX2_happens_4 0 rfl rfl)
theorem dX2_happens_93 : decode cX2_happens 93 = .ok (.getfield 7, 3) := dk_180 0 7 (dk_at dksX2_happens_4 1 rfl rfl)
theorem dX2_happens_96 : decode cX2_happens 96 = .ok (.bipush 9, 2) := dk_16 9 (dk_at dksX2_happens_4 4 rfl rfl)
theorem dX2_happens_98 : decode cX2_happens 98 = .ok (.iload_n 2, 1) := dk_28 (dk_at dksX2_happens_4 6 rfl rfl)
theorem dX2_happens_99 : decode cX2_happens 99 = .ok (.iadd, 1) := dk_96 (dk_at dksX2_happens_4 7 rfl rfl)
theorem dX2_happens_100 : decode cX2_happens 100 = .ok (.iconst 0, 1) := dk_3 (dk_at dksX2_happens_4 8 rfl rfl)
theorem dX2_happens_101 : decode cX2_happens 101 = .ok (.iastore, 1) := dk_79 (dk_at dksX2_happens_4 9 rfl rfl)
theorem dX2_happens_102 : decode cX2_happens 102 = .ok (.goto 40, 3) := dk_167 0 40 (dk_at dksX2_happens_4 10 rfl rfl)
theorem dX2_happens_105 : decode cX2_happens 105 = .ok (.aload_n 0, 1) := dk_42 (dk_at dksX2_happens_4 13 rfl rfl)
theorem dX2_happens_106 : decode cX2_happens 106 = .ok (.getfield 7, 3) := dk_180 0 7 (dk_at dksX2_happens_4 14 rfl rfl)
theorem dX2_happens_109 : decode cX2_happens 109 = .ok (.bipush 9, 2) := dk_16 9 (dk_at dksX2_happens_4 17 rfl rfl)
theorem dX2_happens_111 : decode cX2_happens 111 = .ok (.iload_n 2, 1) := dk_28 (dk_at dksX2_happens_4 19 rfl rfl)
theorem dX2_happens_112 : decode cX2_happens 112 = .ok (.iadd, 1) := dk_96 (dk_at dksX2_happens_4 20 rfl rfl)
theorem dX2_happens_113 : decode cX2_happens 113 = .ok (.iaload, 1) := dk_46 (dk_at dksX2_happens_4 21 rfl rfl)
theorem dX2_happens_114 : decode cX2_happens 114 = .ok (.ifCond .ne 28, 3) := dk_154 0 28 (dk_at dksX2_happens_5 0 rfl rfl)
theorem dX2_happens_117 : decode cX2_happens 117 = .ok (.aload_n 0, 1) := dk_42 (dk_at dksX2_happens_5 3 rfl rfl)
theorem dX2_happens_118 : decode cX2_happens 118 = .ok (.iload_n 2, 1) := dk_28 (dk_at dksX2_happens_5 4 rfl rfl)
theorem dX2_happens_119 : decode cX2_happens 119 = .ok (.invokevirtual 331, 3) := dk_182 1 75 (dk_at dksX2_happens_5 5 rfl rfl)
theorem dX2_happens_122 : decode cX2_happens 122 = .ok (.goto 20, 3) := dk_167 0 20 (dk_at dksX2_happens_5 8 rfl rfl)
theorem dX2_happens_125 : decode cX2_happens 125 = .ok (.aload_n 0, 1) := dk_42 (dk_at dksX2_happens_5 11 rfl rfl)
theorem dX2_happens_126 : decode cX2_happens 126 = .ok (.getfield 7, 3) := dk_180 0 7 (dk_at dksX2_happens_5 12 rfl rfl)
theorem dX2_happens_129 : decode cX2_happens 129 = .ok (.bipush 6, 2) := dk_16 6 (dk_at dksX2_happens_5 15 rfl rfl)
theorem dX2_happens_131 : decode cX2_happens 131 = .ok (.iaload, 1) := dk_46 (dk_at dksX2_happens_5 17 rfl rfl)
theorem dX2_happens_132 : decode cX2_happens 132 = .ok (.sipush 9999, 3) := dk_17 39 15 (dk_at dksX2_happens_5 18 rfl rfl)
theorem dX2_happens_135 : decode cX2_happens 135 = .ok (.if_icmp .ge 7, 3) := dk_162 0 7 (dk_at dksX2_happens_5 21 rfl rfl)
theorem dX2_happens_138 : decode cX2_happens 138 = .ok (.aload_n 0, 1) := dk_42 (dk_at dksX2_happens_6 0 rfl rfl)
theorem dX2_happens_139 : decode cX2_happens 139 = .ok (.invokevirtual 334, 3) := dk_182 1 78 (dk_at dksX2_happens_6 1 rfl rfl)
theorem dX2_happens_142 : decode cX2_happens 142 = .ok (.return_, 1) := dk_177 (dk_at dksX2_happens_6 4 rfl rfl)
abbrev cX2_of : ByteArray := prog_20_method_84_code
def yX2_of : MethodName := ⟨RX2, "of", "(II)I"⟩
def dkwX2_of_2 : List UInt8 := [160, 0, 15, 42, 180, 0, 7, 16, 69, 27, 96, 46, 167, 0, 5, 16, 254, 172]
abbrev dktX2_of_2 : List UInt8 := dkwX2_of_2 ++ []
def dkwX2_of_1 : List UInt8 := [167, 0, 39, 28, 4, 160, 0, 15, 42, 180, 0, 7, 16, 83, 27, 96, 46, 167, 0, 22, 28, 5]
abbrev dktX2_of_1 : List UInt8 := dkwX2_of_1 ++ dktX2_of_2
def dkwX2_of_0 : List UInt8 := [42, 27, 182, 1, 66, 154, 0, 6, 16, 254, 172, 28, 154, 0, 15, 42, 180, 0, 7, 16, 76, 27, 96, 46]
abbrev dktX2_of_0 : List UInt8 := dkwX2_of_0 ++ dktX2_of_1
theorem dksX2_of_0 : cX2_of.data.toList.drop 0 = dktX2_of_0 := by decide +kernel
theorem dksX2_of_1 : cX2_of.data.toList.drop 24 = dktX2_of_1 := dk_seg dksX2_of_0 24 rfl rfl
theorem dksX2_of_2 : cX2_of.data.toList.drop 46 = dktX2_of_2 := dk_seg dksX2_of_1 22 rfl rfl
theorem dX2_of_0 : decode cX2_of 0 = .ok (.aload_n 0, 1) := dk_42 (dk_at dksX2_of_0 0 rfl rfl)
theorem dX2_of_1 : decode cX2_of 1 = .ok (.iload_n 1, 1) := dk_27 (dk_at dksX2_of_0 1 rfl rfl)
theorem dX2_of_2 : decode cX2_of 2 = .ok (.invokevirtual 322, 3) := dk_182 1 66 (dk_at dksX2_of_0 2 rfl rfl)
theorem dX2_of_5 : decode cX2_of 5 = .ok (.ifCond .ne 6, 3) := dk_154 0 6 (dk_at dksX2_of_0 5 rfl rfl)
theorem dX2_of_8 : decode cX2_of 8 = .ok (.bipush (-2), 2) := dk_16 254 (dk_at dksX2_of_0 8 rfl rfl)
theorem dX2_of_10 : decode cX2_of 10 = .ok (.ireturn, 1) := dk_172 (dk_at dksX2_of_0 10 rfl rfl)
theorem dX2_of_11 : decode cX2_of 11 = .ok (.iload_n 2, 1) := dk_28 (dk_at dksX2_of_0 11 rfl rfl)
theorem dX2_of_12 : decode cX2_of 12 = .ok (.ifCond .ne 15, 3) := dk_154 0 15 (dk_at dksX2_of_0 12 rfl rfl)
theorem dX2_of_15 : decode cX2_of 15 = .ok (.aload_n 0, 1) := dk_42 (dk_at dksX2_of_0 15 rfl rfl)
theorem dX2_of_16 : decode cX2_of 16 = .ok (.getfield 7, 3) := dk_180 0 7 (dk_at dksX2_of_0 16 rfl rfl)
theorem dX2_of_19 : decode cX2_of 19 = .ok (.bipush 76, 2) := dk_16 76 (dk_at dksX2_of_0 19 rfl rfl)
theorem dX2_of_21 : decode cX2_of 21 = .ok (.iload_n 1, 1) := dk_27 (dk_at dksX2_of_0 21 rfl rfl)
theorem dX2_of_22 : decode cX2_of 22 = .ok (.iadd, 1) := dk_96 (dk_at dksX2_of_0 22 rfl rfl)
theorem dX2_of_23 : decode cX2_of 23 = .ok (.iaload, 1) := dk_46 (dk_at dksX2_of_0 23 rfl rfl)
theorem dX2_of_24 : decode cX2_of 24 = .ok (.goto 39, 3) := dk_167 0 39 (dk_at dksX2_of_1 0 rfl rfl)
theorem dX2_of_27 : decode cX2_of 27 = .ok (.iload_n 2, 1) := dk_28 (dk_at dksX2_of_1 3 rfl rfl)
theorem dX2_of_28 : decode cX2_of 28 = .ok (.iconst 1, 1) := dk_4 (dk_at dksX2_of_1 4 rfl rfl)
theorem dX2_of_29 : decode cX2_of 29 = .ok (.if_icmp .ne 15, 3) := dk_160 0 15 (dk_at dksX2_of_1 5 rfl rfl)
theorem dX2_of_32 : decode cX2_of 32 = .ok (.aload_n 0, 1) := dk_42 (dk_at dksX2_of_1 8 rfl rfl)
theorem dX2_of_33 : decode cX2_of 33 = .ok (.getfield 7, 3) := dk_180 0 7 (dk_at dksX2_of_1 9 rfl rfl)
theorem dX2_of_36 : decode cX2_of 36 = .ok (.bipush 83, 2) := dk_16 83 (dk_at dksX2_of_1 12 rfl rfl)
theorem dX2_of_38 : decode cX2_of 38 = .ok (.iload_n 1, 1) := dk_27 (dk_at dksX2_of_1 14 rfl rfl)
theorem dX2_of_39 : decode cX2_of 39 = .ok (.iadd, 1) := dk_96 (dk_at dksX2_of_1 15 rfl rfl)
theorem dX2_of_40 : decode cX2_of 40 = .ok (.iaload, 1) := dk_46 (dk_at dksX2_of_1 16 rfl rfl)
theorem dX2_of_41 : decode cX2_of 41 = .ok (.goto 22, 3) := dk_167 0 22 (dk_at dksX2_of_1 17 rfl rfl)
theorem dX2_of_44 : decode cX2_of 44 = .ok (.iload_n 2, 1) := dk_28 (dk_at dksX2_of_1 20 rfl rfl)
theorem dX2_of_45 : decode cX2_of 45 = .ok (.iconst 2, 1) := dk_5 (dk_at dksX2_of_1 21 rfl rfl)
theorem dX2_of_46 : decode cX2_of 46 = .ok (.if_icmp .ne 15, 3) := dk_160 0 15 (dk_at dksX2_of_2 0 rfl rfl)
theorem dX2_of_49 : decode cX2_of 49 = .ok (.aload_n 0, 1) := dk_42 (dk_at dksX2_of_2 3 rfl rfl)
theorem dX2_of_50 : decode cX2_of 50 = .ok (.getfield 7, 3) := dk_180 0 7 (dk_at dksX2_of_2 4 rfl rfl)
theorem dX2_of_53 : decode cX2_of 53 = .ok (.bipush 69, 2) := dk_16 69 (dk_at dksX2_of_2 7 rfl rfl)
theorem dX2_of_55 : decode cX2_of 55 = .ok (.iload_n 1, 1) := dk_27 (dk_at dksX2_of_2 9 rfl rfl)
theorem dX2_of_56 : decode cX2_of 56 = .ok (.iadd, 1) := dk_96 (dk_at dksX2_of_2 10 rfl rfl)
theorem dX2_of_57 : decode cX2_of 57 = .ok (.iaload, 1) := dk_46 (dk_at dksX2_of_2 11 rfl rfl)
theorem dX2_of_58 : decode cX2_of 58 = .ok (.goto 5, 3) := dk_167 0 5 (dk_at dksX2_of_2 12 rfl rfl)
theorem dX2_of_61 : decode cX2_of 61 = .ok (.bipush (-2), 2) := dk_16 254 (dk_at dksX2_of_2 15 rfl rfl)
theorem dX2_of_63 : decode cX2_of 63 = .ok (.ireturn, 1) := dk_172 (dk_at dksX2_of_2 17 rfl rfl)
abbrev cX2_ofBar : ByteArray := prog_20_method_85_code
def yX2_ofBar : MethodName := ⟨RX2, "ofBar", "(II)I"⟩
def dkwX2_ofBar_2 : List UInt8 := [160, 0, 11, 42, 27, 182, 1, 63, 167, 0, 4, 2, 172]
abbrev dktX2_ofBar_2 : List UInt8 := dkwX2_ofBar_2 ++ []
def dkwX2_ofBar_1 : List UInt8 := [167, 0, 34, 28, 4, 160, 0, 15, 42, 180, 0, 7, 16, 39, 27, 96, 46, 167, 0, 17, 28, 5]
abbrev dktX2_ofBar_1 : List UInt8 := dkwX2_ofBar_1 ++ dktX2_ofBar_2
def dkwX2_ofBar_0 : List UInt8 := [27, 184, 0, 73, 154, 0, 5, 2, 172, 28, 154, 0, 15, 42, 180, 0, 7, 16, 9, 27, 96, 46]
abbrev dktX2_ofBar_0 : List UInt8 := dkwX2_ofBar_0 ++ dktX2_ofBar_1
theorem dksX2_ofBar_0 : cX2_ofBar.data.toList.drop 0 = dktX2_ofBar_0 := by decide +kernel
theorem dksX2_ofBar_1 : cX2_ofBar.data.toList.drop 22 = dktX2_ofBar_1 := dk_seg dksX2_ofBar_0 22 rfl rfl
theorem dksX2_ofBar_2 : cX2_ofBar.data.toList.drop 44 = dktX2_ofBar_2 := dk_seg dksX2_ofBar_1 22 rfl rfl
theorem dX2_ofBar_0 : decode cX2_ofBar 0 = .ok (.iload_n 1, 1) := dk_27 (dk_at dksX2_ofBar_0 0 rfl rfl)
theorem dX2_ofBar_1 : decode cX2_ofBar 1 = .ok (.invokestatic 73, 3) := dk_184 0 73 (dk_at dksX2_ofBar_0 1 rfl rfl)
theorem dX2_ofBar_4 : decode cX2_ofBar 4 = .ok (.ifCond .ne 5, 3) := dk_154 0 5 (dk_at dksX2_ofBar_0 4 rfl rfl)
theorem dX2_ofBar_7 : decode cX2_ofBar 7 = .ok (.iconst (-1), 1) := dk_2 (dk_at dksX2_ofBar_0 7 rfl rfl)
theorem dX2_ofBar_8 : decode cX2_ofBar 8 = .ok (.ireturn, 1) := dk_172 (dk_at dksX2_ofBar_0 8 rfl rfl)
theorem dX2_ofBar_9 : decode cX2_ofBar 9 = .ok (.iload_n 2, 1) := dk_28 (dk_at dksX2_ofBar_0 9 rfl rfl)
theorem dX2_ofBar_10 : decode cX2_ofBar 10 = .ok (.ifCond .ne 15, 3) := dk_154 0 15 (dk_at dksX2_ofBar_0 10 rfl rfl)
theorem dX2_ofBar_13 : decode cX2_ofBar 13 = .ok (.aload_n 0, 1) := dk_42 (dk_at dksX2_ofBar_0 13 rfl rfl)
theorem dX2_ofBar_14 : decode cX2_ofBar 14 = .ok (.getfield 7, 3) := dk_180 0 7 (dk_at dksX2_ofBar_0 14 rfl rfl)
theorem dX2_ofBar_17 : decode cX2_ofBar 17 = .ok (.bipush 9, 2) := dk_16 9 (dk_at dksX2_ofBar_0 17 rfl rfl)
theorem dX2_ofBar_19 : decode cX2_ofBar 19 = .ok (.iload_n 1, 1) := dk_27 (dk_at dksX2_ofBar_0 19 rfl rfl)
theorem dX2_ofBar_20 : decode cX2_ofBar 20 = .ok (.iadd, 1) := dk_96 (dk_at dksX2_ofBar_0 20 rfl rfl)
theorem dX2_ofBar_21 : decode cX2_ofBar 21 = .ok (.iaload, 1) := dk_46 (dk_at dksX2_ofBar_0 21 rfl rfl)
theorem dX2_ofBar_22 : decode cX2_ofBar 22 = .ok (.goto 34, 3) := dk_167 0 34 (dk_at dksX2_ofBar_1 0 rfl rfl)
theorem dX2_ofBar_25 : decode cX2_ofBar 25 = .ok (.iload_n 2, 1) := dk_28 (dk_at dksX2_ofBar_1 3 rfl rfl)
theorem dX2_ofBar_26 : decode cX2_ofBar 26 = .ok (.iconst 1, 1) := dk_4 (dk_at dksX2_ofBar_1 4 rfl rfl)
theorem dX2_ofBar_27 : decode cX2_ofBar 27 = .ok (.if_icmp .ne 15, 3) := dk_160 0 15 (dk_at dksX2_ofBar_1 5 rfl rfl)
theorem dX2_ofBar_30 : decode cX2_ofBar 30 = .ok (.aload_n 0, 1) := dk_42 (dk_at dksX2_ofBar_1 8 rfl rfl)
theorem dX2_ofBar_31 : decode cX2_ofBar 31 = .ok (.getfield 7, 3) := dk_180 0 7 (dk_at dksX2_ofBar_1 9 rfl rfl)
theorem dX2_ofBar_34 : decode cX2_ofBar 34 = .ok (.bipush 39, 2) := dk_16 39 (dk_at dksX2_ofBar_1 12 rfl rfl)
theorem dX2_ofBar_36 : decode cX2_ofBar 36 = .ok (.iload_n 1, 1) := dk_27 (dk_at dksX2_ofBar_1 14 rfl rfl)
theorem dX2_ofBar_37 : decode cX2_ofBar 37 = .ok (.iadd, 1) := dk_96 (dk_at dksX2_ofBar_1 15 rfl rfl)
theorem dX2_ofBar_38 : decode cX2_ofBar 38 = .ok (.iaload, 1) := dk_46 (dk_at dksX2_ofBar_1 16 rfl rfl)
theorem dX2_ofBar_39 : decode cX2_ofBar 39 = .ok (.goto 17, 3) := dk_167 0 17 (dk_at dksX2_ofBar_1 17 rfl rfl)
theorem dX2_ofBar_42 : decode cX2_ofBar 42 = .ok (.iload_n 2, 1) := dk_28 (dk_at dksX2_ofBar_1 20 rfl rfl)
theorem dX2_ofBar_43 : decode cX2_ofBar 43 = .ok (.iconst 2, 1) := dk_5 (dk_at dksX2_ofBar_1 21 rfl rfl)
theorem dX2_ofBar_44 : decode cX2_ofBar 44 = .ok (.if_icmp .ne 11, 3) := dk_160 0 11 (dk_at dksX2_ofBar_2 0 rfl rfl)
theorem dX2_ofBar_47 : decode cX2_ofBar 47 = .ok (.aload_n 0, 1) := dk_42 (dk_at dksX2_ofBar_2 3 rfl rfl)
theorem dX2_ofBar_48 : decode cX2_ofBar 48 = .ok (.iload_n 1, 1) := dk_27 (dk_at dksX2_ofBar_2 4 rfl rfl)
theorem dX2_ofBar_49 : decode cX2_ofBar 49 = .ok (.invokevirtual 319, 3) := dk_182 1 63 (dk_at dksX2_ofBar_2 5 rfl rfl)
theorem dX2_ofBar_52 : decode cX2_ofBar 52 = .ok (.goto 4, 3) := dk_167 0 4 (dk_at dksX2_ofBar_2 8 rfl rfl)
theorem dX2_ofBar_55 : decode cX2_ofBar 55 = .ok (.iconst (-1), 1) := dk_2 (dk_at dksX2_ofBar_2 11 rfl rfl)
theorem dX2_ofBar_56 : decode cX2_ofBar 56 = .ok (.ireturn, 1) := dk_172 (dk_at dksX2_ofBar_2 12 rfl rfl)
abbrev cX2_catches : ByteArray := prog_20_method_86_code
def yX2_catches : MethodName := ⟨RX2, "catches", "(III)I"⟩
def dkwX2_catches_1 : List UInt8 := [153, 0, 19, 42, 42, 180, 0, 7, 5, 46, 27, 28, 29, 182, 1, 47, 167, 0, 4, 2, 172]
abbrev dktX2_catches_1 : List UInt8 := dkwX2_catches_1 ++ []
def dkwX2_catches_0 : List UInt8 := [42, 27, 182, 1, 66, 153, 0, 36, 28, 184, 0, 73, 153, 0, 29, 29, 4, 16, 60, 184, 0, 69]
abbrev dktX2_catches_0 : List UInt8 := dkwX2_catches_0 ++ dktX2_catches_1
theorem dksX2_catches_0 : cX2_catches.data.toList.drop 0 = dktX2_catches_0 := by decide +kernel
theorem dksX2_catches_1 : cX2_catches.data.toList.drop 22 = dktX2_catches_1 := dk_seg dksX2_catches_0 22 rfl rfl
theorem dX2_catches_0 : decode cX2_catches 0 = .ok (.aload_n 0, 1) := dk_42 (dk_at dksX2_catches_0 0 rfl rfl)
theorem dX2_catches_1 : decode cX2_catches 1 = .ok (.iload_n 1, 1) := dk_27 (dk_at dksX2_catches_0 1 rfl rfl)
theorem dX2_catches_2 : decode cX2_catches 2 = .ok (.invokevirtual 322, 3) := dk_182 1 66 (dk_at dksX2_catches_0 2 rfl rfl)
theorem dX2_catches_5 : decode cX2_catches 5 = .ok (.ifCond .eq 36, 3) := dk_153 0 36 (dk_at dksX2_catches_0 5 rfl rfl)
theorem dX2_catches_8 : decode cX2_catches 8 = .ok (.iload_n 2, 1) := dk_28 (dk_at dksX2_catches_0 8 rfl rfl)
theorem dX2_catches_9 : decode cX2_catches 9 = .ok (.invokestatic 73, 3) := dk_184 0 73 (dk_at dksX2_catches_0 9 rfl rfl)
theorem dX2_catches_12 : decode cX2_catches 12 = .ok (.ifCond .eq 29, 3) := dk_153 0 29 (dk_at dksX2_catches_0 12 rfl rfl)
theorem dX2_catches_15 : decode cX2_catches 15 = .ok (.iload_n 3, 1) := dk_29 (dk_at dksX2_catches_0 15 rfl rfl)
theorem dX2_catches_16 : decode cX2_catches 16 = .ok (.iconst 1, 1) := dk_4 (dk_at dksX2_catches_0 16 rfl rfl)
theorem dX2_catches_17 : decode cX2_catches 17 = .ok (.bipush 60, 2) := dk_16 60 (dk_at dksX2_catches_0 17 rfl rfl)
theorem dX2_catches_19 : decode cX2_catches 19 = .ok (.invokestatic 69, 3) := dk_184 0 69 (dk_at dksX2_catches_0 19 rfl rfl)
theorem dX2_catches_22 : decode cX2_catches 22 = .ok (.ifCond .eq 19, 3) := dk_153 0 19 (dk_at dksX2_catches_1 0 rfl rfl)
theorem dX2_catches_25 : decode cX2_catches 25 = .ok (.aload_n 0, 1) := dk_42 (dk_at dksX2_catches_1 3 rfl rfl)
theorem dX2_catches_26 : decode cX2_catches 26 = .ok (.aload_n 0, 1) := dk_42 (dk_at dksX2_catches_1 4 rfl rfl)
theorem dX2_catches_27 : decode cX2_catches 27 = .ok (.getfield 7, 3) := dk_180 0 7 (dk_at dksX2_catches_1 5 rfl rfl)
theorem dX2_catches_30 : decode cX2_catches 30 = .ok (.iconst 2, 1) := dk_5 (dk_at dksX2_catches_1 8 rfl rfl)
theorem dX2_catches_31 : decode cX2_catches 31 = .ok (.iaload, 1) := dk_46 (dk_at dksX2_catches_1 9 rfl rfl)
theorem dX2_catches_32 : decode cX2_catches 32 = .ok (.iload_n 1, 1) := dk_27 (dk_at dksX2_catches_1 10 rfl rfl)
theorem dX2_catches_33 : decode cX2_catches 33 = .ok (.iload_n 2, 1) := dk_28 (dk_at dksX2_catches_1 11 rfl rfl)
theorem dX2_catches_34 : decode cX2_catches 34 = .ok (.iload_n 3, 1) := dk_29 (dk_at dksX2_catches_1 12 rfl rfl)
theorem dX2_catches_35 : decode cX2_catches 35 = .ok (.invokevirtual 303, 3) := dk_182 1 47 (dk_at dksX2_catches_1 13 rfl rfl)
theorem dX2_catches_38 : decode cX2_catches 38 = .ok (.goto 4, 3) := dk_167 0 4 (dk_at dksX2_catches_1 16 rfl rfl)
theorem dX2_catches_41 : decode cX2_catches 41 = .ok (.iconst (-1), 1) := dk_2 (dk_at dksX2_catches_1 19 rfl rfl)
theorem dX2_catches_42 : decode cX2_catches 42 = .ok (.ireturn, 1) := dk_172 (dk_at dksX2_catches_1 20 rfl rfl)
abbrev cX2_is : ByteArray := prog_20_method_89_code
def yX2_is : MethodName := ⟨RX2, "is", "(I)I"⟩
def dkwX2_is_2 : List UInt8 := [160, 0, 10, 42, 182, 1, 111, 167, 0, 5, 16, 254, 172]
abbrev dktX2_is_2 : List UInt8 := dkwX2_is_2 ++ []
def dkwX2_is_1 : List UInt8 := [16, 7, 46, 167, 0, 32, 27, 5, 160, 0, 13, 42, 3, 16, 30, 182, 1, 108, 167, 0, 17, 27, 6]
abbrev dktX2_is_1 : List UInt8 := dkwX2_is_1 ++ dktX2_is_2
def dkwX2_is_0 : List UInt8 := [27, 154, 0, 13, 42, 180, 0, 7, 16, 6, 46, 167, 0, 47, 27, 4, 160, 0, 13, 42, 180, 0, 7]
abbrev dktX2_is_0 : List UInt8 := dkwX2_is_0 ++ dktX2_is_1
theorem dksX2_is_0 : cX2_is.data.toList.drop 0 = dktX2_is_0 := by decide +kernel
theorem dksX2_is_1 : cX2_is.data.toList.drop 23 = dktX2_is_1 := dk_seg dksX2_is_0 23 rfl rfl
theorem dksX2_is_2 : cX2_is.data.toList.drop 46 = dktX2_is_2 := dk_seg dksX2_is_1 23 rfl rfl
theorem dX2_is_0 : decode cX2_is 0 = .ok (.iload_n 1, 1) := dk_27 (dk_at dksX2_is_0 0 rfl rfl)
theorem dX2_is_1 : decode cX2_is 1 = .ok (.ifCond .ne 13, 3) := dk_154 0 13 (dk_at dksX2_is_0 1 rfl rfl)
theorem dX2_is_4 : decode cX2_is 4 = .ok (.aload_n 0, 1) := dk_42 (dk_at dksX2_is_0 4 rfl rfl)
theorem dX2_is_5 : decode cX2_is 5 = .ok (.getfield 7, 3) := dk_180 0 7 (dk_at dksX2_is_0 5 rfl rfl)
theorem dX2_is_8 : decode cX2_is 8 = .ok (.bipush 6, 2) := dk_16 6 (dk_at dksX2_is_0 8 rfl rfl)
theorem dX2_is_10 : decode cX2_is 10 = .ok (.iaload, 1) := dk_46 (dk_at dksX2_is_0 10 rfl rfl)
theorem dX2_is_11 : decode cX2_is 11 = .ok (.goto 47, 3) := dk_167 0 47 (dk_at dksX2_is_0 11 rfl rfl)
theorem dX2_is_14 : decode cX2_is 14 = .ok (.iload_n 1, 1) := dk_27 (dk_at dksX2_is_0 14 rfl rfl)
theorem dX2_is_15 : decode cX2_is 15 = .ok (.iconst 1, 1) := dk_4 (dk_at dksX2_is_0 15 rfl rfl)
theorem dX2_is_16 : decode cX2_is 16 = .ok (.if_icmp .ne 13, 3) := dk_160 0 13 (dk_at dksX2_is_0 16 rfl rfl)
theorem dX2_is_19 : decode cX2_is 19 = .ok (.aload_n 0, 1) := dk_42 (dk_at dksX2_is_0 19 rfl rfl)
theorem dX2_is_20 : decode cX2_is 20 = .ok (.getfield 7, 3) := dk_180 0 7 (dk_at dksX2_is_0 20 rfl rfl)
theorem dX2_is_23 : decode cX2_is 23 = .ok (.bipush 7, 2) := dk_16 7 (dk_at dksX2_is_1 0 rfl rfl)
theorem dX2_is_25 : decode cX2_is 25 = .ok (.iaload, 1) := dk_46 (dk_at dksX2_is_1 2 rfl rfl)
theorem dX2_is_26 : decode cX2_is 26 = .ok (.goto 32, 3) := dk_167 0 32 (dk_at dksX2_is_1 3 rfl rfl)
theorem dX2_is_29 : decode cX2_is 29 = .ok (.iload_n 1, 1) := dk_27 (dk_at dksX2_is_1 6 rfl rfl)
theorem dX2_is_30 : decode cX2_is 30 = .ok (.iconst 2, 1) := dk_5 (dk_at dksX2_is_1 7 rfl rfl)
theorem dX2_is_31 : decode cX2_is 31 = .ok (.if_icmp .ne 13, 3) := dk_160 0 13 (dk_at dksX2_is_1 8 rfl rfl)
theorem dX2_is_34 : decode cX2_is 34 = .ok (.aload_n 0, 1) := dk_42 (dk_at dksX2_is_1 11 rfl rfl)
theorem dX2_is_35 : decode cX2_is 35 = .ok (.iconst 0, 1) := dk_3 (dk_at dksX2_is_1 12 rfl rfl)
theorem dX2_is_36 : decode cX2_is 36 = .ok (.bipush 30, 2) := dk_16 30 (dk_at dksX2_is_1 13 rfl rfl)
theorem dX2_is_38 : decode cX2_is 38 = .ok (.invokevirtual 364, 3) := dk_182 1 108 (dk_at dksX2_is_1 15 rfl rfl)
theorem dX2_is_41 : decode cX2_is 41 = .ok (.goto 17, 3) := dk_167 0 17 (dk_at dksX2_is_1 18 rfl rfl)
theorem dX2_is_44 : decode cX2_is 44 = .ok (.iload_n 1, 1) := dk_27 (dk_at dksX2_is_1 21 rfl rfl)
theorem dX2_is_45 : decode cX2_is 45 = .ok (.iconst 3, 1) := dk_6 (dk_at dksX2_is_1 22 rfl rfl)
theorem dX2_is_46 : decode cX2_is 46 = .ok (.if_icmp .ne 10, 3) := dk_160 0 10 (dk_at dksX2_is_2 0 rfl rfl)
theorem dX2_is_49 : decode cX2_is 49 = .ok (.aload_n 0, 1) := dk_42 (dk_at dksX2_is_2 3 rfl rfl)
theorem dX2_is_50 : decode cX2_is 50 = .ok (.invokevirtual 367, 3) := dk_182 1 111 (dk_at dksX2_is_2 4 rfl rfl)
theorem dX2_is_53 : decode cX2_is 53 = .ok (.goto 5, 3) := dk_167 0 5 (dk_at dksX2_is_2 7 rfl rfl)
theorem dX2_is_56 : decode cX2_is 56 = .ok (.bipush (-2), 2) := dk_16 254 (dk_at dksX2_is_2 10 rfl rfl)
theorem dX2_is_58 : decode cX2_is 58 = .ok (.ireturn, 1) := dk_172 (dk_at dksX2_is_2 12 rfl rfl)
abbrev cX2_barsFrom : ByteArray := prog_20_method_87_code
def yX2_barsFrom : MethodName := ⟨RX2, "barsFrom", "(II)I"⟩
def dkwX2_barsFrom_1 : List UInt8 := [153, 0, 7, 4, 167, 0, 4, 3, 96, 62, 132, 4, 1, 167, 255, 225, 29, 172]
abbrev dktX2_barsFrom_1 : List UInt8 := dkwX2_barsFrom_1 ++ []
def dkwX2_barsFrom_0 : List UInt8 := [3, 62, 3, 54, 4, 21, 4, 28, 162, 0, 31, 29, 42, 27, 21, 4, 96, 16, 30, 112, 182, 1, 44]
abbrev dktX2_barsFrom_0 : List UInt8 := dkwX2_barsFrom_0 ++ dktX2_barsFrom_1
theorem dksX2_barsFrom_0 : cX2_barsFrom.data.toList.drop 0 = dktX2_barsFrom_0 := by decide +kernel
theorem dksX2_barsFrom_1 : cX2_barsFrom.data.toList.drop 23 = dktX2_barsFrom_1 := dk_seg dksX2_barsFrom_0 23 rfl rfl
theorem dX2_barsFrom_0 : decode cX2_barsFrom 0 = .ok (.iconst 0, 1) := dk_3 (dk_at dksX2_barsFrom_0 0 rfl rfl)
theorem dX2_barsFrom_1 : decode cX2_barsFrom 1 = .ok (.istore_n 3, 1) := dk_62 (dk_at dksX2_barsFrom_0 1 rfl rfl)
theorem dX2_barsFrom_2 : decode cX2_barsFrom 2 = .ok (.iconst 0, 1) := dk_3 (dk_at dksX2_barsFrom_0 2 rfl rfl)
theorem dX2_barsFrom_3 : decode cX2_barsFrom 3 = .ok (.istore 4, 2) := dk_54 4 (dk_at dksX2_barsFrom_0 3 rfl rfl)
theorem dX2_barsFrom_5 : decode cX2_barsFrom 5 = .ok (.iload 4, 2) := dk_21 4 (dk_at dksX2_barsFrom_0 5 rfl rfl)
theorem dX2_barsFrom_7 : decode cX2_barsFrom 7 = .ok (.iload_n 2, 1) := dk_28 (dk_at dksX2_barsFrom_0 7 rfl rfl)
theorem dX2_barsFrom_8 : decode cX2_barsFrom 8 = .ok (.if_icmp .ge 31, 3) := dk_162 0 31 (dk_at dksX2_barsFrom_0 8 rfl rfl)
theorem dX2_barsFrom_11 : decode cX2_barsFrom 11 = .ok (.iload_n 3, 1) := dk_29 (dk_at dksX2_barsFrom_0 11 rfl rfl)
theorem dX2_barsFrom_12 : decode cX2_barsFrom 12 = .ok (.aload_n 0, 1) := dk_42 (dk_at dksX2_barsFrom_0 12 rfl rfl)
theorem dX2_barsFrom_13 : decode cX2_barsFrom 13 = .ok (.iload_n 1, 1) := dk_27 (dk_at dksX2_barsFrom_0 13 rfl rfl)
theorem dX2_barsFrom_14 : decode cX2_barsFrom 14 = .ok (.iload 4, 2) := dk_21 4 (dk_at dksX2_barsFrom_0 14 rfl rfl)
theorem dX2_barsFrom_16 : decode cX2_barsFrom 16 = .ok (.iadd, 1) := dk_96 (dk_at dksX2_barsFrom_0 16 rfl rfl)
theorem dX2_barsFrom_17 : decode cX2_barsFrom 17 = .ok (.bipush 30, 2) := dk_16 30 (dk_at dksX2_barsFrom_0 17 rfl rfl)
theorem dX2_barsFrom_19 : decode cX2_barsFrom 19 = .ok (.irem, 1) := dk_112 (dk_at dksX2_barsFrom_0 19 rfl rfl)
theorem dX2_barsFrom_20 : decode cX2_barsFrom 20 = .ok (.invokevirtual 300, 3) := dk_182 1 44 (dk_at dksX2_barsFrom_0 20 rfl rfl)
theorem dX2_barsFrom_23 : decode cX2_barsFrom 23 = .ok (.ifCond .eq 7, 3) := dk_153 0 7 (dk_at dksX2_barsFrom_1 0 rfl rfl)
theorem dX2_barsFrom_26 : decode cX2_barsFrom 26 = .ok (.iconst 1, 1) := dk_4 (dk_at dksX2_barsFrom_1 3 rfl rfl)
theorem dX2_barsFrom_27 : decode cX2_barsFrom 27 = .ok (.goto 4, 3) := dk_167 0 4 (dk_at dksX2_barsFrom_1 4 rfl rfl)
theorem dX2_barsFrom_30 : decode cX2_barsFrom 30 = .ok (.iconst 0, 1) := dk_3 (dk_at dksX2_barsFrom_1 7 rfl rfl)
theorem dX2_barsFrom_31 : decode cX2_barsFrom 31 = .ok (.iadd, 1) := dk_96 (dk_at dksX2_barsFrom_1 8 rfl rfl)
theorem dX2_barsFrom_32 : decode cX2_barsFrom 32 = .ok (.istore_n 3, 1) := dk_62 (dk_at dksX2_barsFrom_1 9 rfl rfl)
theorem dX2_barsFrom_33 : decode cX2_barsFrom 33 = .ok (.iinc 4 1, 3) := dk_132 4 1 (dk_at dksX2_barsFrom_1 10 rfl rfl)
theorem dX2_barsFrom_36 : decode cX2_barsFrom 36 = .ok (.goto (-31), 3) := dk_167 255 225 (dk_at dksX2_barsFrom_1 13 rfl rfl)
theorem dX2_barsFrom_39 : decode cX2_barsFrom 39 = .ok (.iload_n 3, 1) := dk_29 (dk_at dksX2_barsFrom_1 16 rfl rfl)
theorem dX2_barsFrom_40 : decode cX2_barsFrom 40 = .ok (.ireturn, 1) := dk_172 (dk_at dksX2_barsFrom_1 17 rfl rfl)
abbrev cX2_numberless : ByteArray := prog_20_method_88_code
def yX2_numberless : MethodName := ⟨RX2, "numberless", "()I"⟩
def dkwX2_numberless_1 : List UInt8 := [2, 160, 0, 9, 4, 28, 120, 167, 0, 4, 3, 128, 60, 132, 2, 1, 167, 255, 220, 27, 172]
abbrev dktX2_numberless_1 : List UInt8 := dkwX2_numberless_1 ++ []
def dkwX2_numberless_0 : List UInt8 := [3, 60, 3, 61, 28, 42, 180, 0, 7, 3, 46, 162, 0, 32, 27, 42, 180, 0, 7, 16, 69, 28, 96, 46]
abbrev dktX2_numberless_0 : List UInt8 := dkwX2_numberless_0 ++ dktX2_numberless_1
theorem dksX2_numberless_0 : cX2_numberless.data.toList.drop 0 = dktX2_numberless_0 := by decide +kernel
theorem dksX2_numberless_1 : cX2_numberless.data.toList.drop 24 = dktX2_numberless_1 := dk_seg dksX2_numberless_0 24 rfl rfl
theorem dX2_numberless_0 : decode cX2_numberless 0 = .ok (.iconst 0, 1) := dk_3 (dk_at dksX2_numberless_0 0 rfl rfl)
theorem dX2_numberless_1 : decode cX2_numberless 1 = .ok (.istore_n 1, 1) := dk_60 (dk_at dksX2_numberless_0 1 rfl rfl)
theorem dX2_numberless_2 : decode cX2_numberless 2 = .ok (.iconst 0, 1) := dk_3 (dk_at dksX2_numberless_0 2 rfl rfl)
theorem dX2_numberless_3 : decode cX2_numberless 3 = .ok (.istore_n 2, 1) := dk_61 (dk_at dksX2_numberless_0 3 rfl rfl)
theorem dX2_numberless_4 : decode cX2_numberless 4 = .ok (.iload_n 2, 1) := dk_28 (dk_at dksX2_numberless_0 4 rfl rfl)
theorem dX2_numberless_5 : decode cX2_numberless 5 = .ok (.aload_n 0, 1) := dk_42 (dk_at dksX2_numberless_0 5 rfl rfl)
theorem dX2_numberless_6 : decode cX2_numberless 6 = .ok (.getfield 7, 3) := dk_180 0 7 (dk_at dksX2_numberless_0 6 rfl rfl)
theorem dX2_numberless_9 : decode cX2_numberless 9 = .ok (.iconst 0, 1) := dk_3 (dk_at dksX2_numberless_0 9 rfl rfl)
theorem dX2_numberless_10 : decode cX2_numberless 10 = .ok (.iaload, 1) := dk_46 (dk_at dksX2_numberless_0 10 rfl rfl)
theorem dX2_numberless_11 : decode cX2_numberless 11 = .ok (.if_icmp .ge 32, 3) := dk_162 0 32 (dk_at dksX2_numberless_0 11 rfl rfl)
theorem dX2_numberless_14 : decode cX2_numberless 14 = .ok (.iload_n 1, 1) := dk_27 (dk_at dksX2_numberless_0 14 rfl rfl)
theorem dX2_numberless_15 : decode cX2_numberless 15 = .ok (.aload_n 0, 1) := dk_42 (dk_at dksX2_numberless_0 15 rfl rfl)
theorem dX2_numberless_16 : decode cX2_numberless 16 = .ok (.getfield 7, 3) := dk_180 0 7 (dk_at dksX2_numberless_0 16 rfl rfl)
theorem dX2_numberless_19 : decode cX2_numberless 19 = .ok (.bipush 69, 2) := dk_16 69 (dk_at dksX2_numberless_0 19 rfl rfl)
theorem dX2_numberless_21 : decode cX2_numberless 21 = .ok (.iload_n 2, 1) := dk_28 (dk_at dksX2_numberless_0 21 rfl rfl)
theorem dX2_numberless_22 : decode cX2_numberless 22 = .ok (.iadd, 1) := dk_96 (dk_at dksX2_numberless_0 22 rfl rfl)
theorem dX2_numberless_23 : decode cX2_numberless 23 = .ok (.iaload, 1) := dk_46 (dk_at dksX2_numberless_0 23 rfl rfl)
theorem dX2_numberless_24 : decode cX2_numberless 24 = .ok (.iconst (-1), 1) := dk_2 (dk_at dksX2_numberless_1 0 rfl rfl)
theorem dX2_numberless_25 : decode cX2_numberless 25 = .ok (.if_icmp .ne 9, 3) := dk_160 0 9 (dk_at dksX2_numberless_1 1 rfl rfl)
theorem dX2_numberless_28 : decode cX2_numberless 28 = .ok (.iconst 1, 1) := dk_4 (dk_at dksX2_numberless_1 4 rfl rfl)
theorem dX2_numberless_29 : decode cX2_numberless 29 = .ok (.iload_n 2, 1) := dk_28 (dk_at dksX2_numberless_1 5 rfl rfl)
theorem dX2_numberless_30 : decode cX2_numberless 30 = .ok (.ishl, 1) := dk_120 (dk_at dksX2_numberless_1 6 rfl rfl)
theorem dX2_numberless_31 : decode cX2_numberless 31 = .ok (.goto 4, 3) := dk_167 0 4 (dk_at dksX2_numberless_1 7 rfl rfl)
theorem dX2_numberless_34 : decode cX2_numberless 34 = .ok (.iconst 0, 1) := dk_3 (dk_at dksX2_numberless_1 10 rfl rfl)
theorem dX2_numberless_35 : decode cX2_numberless 35 = .ok (.ior, 1) := dk_128 (dk_at dksX2_numberless_1 11 rfl rfl)
theorem dX2_numberless_36 : decode cX2_numberless 36 = .ok (.istore_n 1, 1) := dk_60 (dk_at dksX2_numberless_1 12 rfl rfl)
theorem dX2_numberless_37 : decode cX2_numberless 37 = .ok (.iinc 2 1, 3) := dk_132 2 1 (dk_at dksX2_numberless_1 13 rfl rfl)
theorem dX2_numberless_40 : decode cX2_numberless 40 = .ok (.goto (-36), 3) := dk_167 255 220 (dk_at dksX2_numberless_1 16 rfl rfl)
theorem dX2_numberless_43 : decode cX2_numberless 43 = .ok (.iload_n 1, 1) := dk_27 (dk_at dksX2_numberless_1 19 rfl rfl)
theorem dX2_numberless_44 : decode cX2_numberless 44 = .ok (.ireturn, 1) := dk_172 (dk_at dksX2_numberless_1 20 rfl rfl)
abbrev cX2_book : ByteArray := prog_20_method_91_code
def yX2_book : MethodName := ⟨RX2, "book", "(II)I"⟩
def dkwX2_book_2 : List UInt8 := [16, 254, 172]
abbrev dktX2_book_2 : List UInt8 := dkwX2_book_2 ++ []
def dkwX2_book_1 : List UInt8 := [184, 0, 69, 153, 0, 21, 28, 3, 6, 184, 0, 69, 153, 0, 12, 42, 27, 28, 182, 1, 114, 167, 0, 5]
abbrev dktX2_book_1 : List UInt8 := dkwX2_book_1 ++ dktX2_book_2
def dkwX2_book_0 : List UInt8 := [27, 2, 160, 0, 11, 42, 180, 0, 7, 16, 8, 46, 172, 27, 3, 42, 180, 0, 7, 16, 8, 46, 4, 100]
abbrev dktX2_book_0 : List UInt8 := dkwX2_book_0 ++ dktX2_book_1
theorem dksX2_book_0 : cX2_book.data.toList.drop 0 = dktX2_book_0 := by decide +kernel
theorem dksX2_book_1 : cX2_book.data.toList.drop 24 = dktX2_book_1 := dk_seg dksX2_book_0 24 rfl rfl
theorem dksX2_book_2 : cX2_book.data.toList.drop 48 = dktX2_book_2 := dk_seg dksX2_book_1 24 rfl rfl
theorem dX2_book_0 : decode cX2_book 0 = .ok (.iload_n 1, 1) := dk_27 (dk_at dksX2_book_0 0 rfl rfl)
theorem dX2_book_1 : decode cX2_book 1 = .ok (.iconst (-1), 1) := dk_2 (dk_at dksX2_book_0 1 rfl rfl)
theorem dX2_book_2 : decode cX2_book 2 = .ok (.if_icmp .ne 11, 3) := dk_160 0 11 (dk_at dksX2_book_0 2 rfl rfl)
theorem dX2_book_5 : decode cX2_book 5 = .ok (.aload_n 0, 1) := dk_42 (dk_at dksX2_book_0 5 rfl rfl)
theorem dX2_book_6 : decode cX2_book 6 = .ok (.getfield 7, 3) := dk_180 0 7 (dk_at dksX2_book_0 6 rfl rfl)
theorem dX2_book_9 : decode cX2_book 9 = .ok (.bipush 8, 2) := dk_16 8 (dk_at dksX2_book_0 9 rfl rfl)
theorem dX2_book_11 : decode cX2_book 11 = .ok (.iaload, 1) := dk_46 (dk_at dksX2_book_0 11 rfl rfl)
theorem dX2_book_12 : decode cX2_book 12 = .ok (.ireturn, 1) := dk_172 (dk_at dksX2_book_0 12 rfl rfl)
theorem dX2_book_13 : decode cX2_book 13 = .ok (.iload_n 1, 1) := dk_27 (dk_at dksX2_book_0 13 rfl rfl)
theorem dX2_book_14 : decode cX2_book 14 = .ok (.iconst 0, 1) := dk_3 (dk_at dksX2_book_0 14 rfl rfl)
theorem dX2_book_15 : decode cX2_book 15 = .ok (.aload_n 0, 1) := dk_42 (dk_at dksX2_book_0 15 rfl rfl)
theorem dX2_book_16 : decode cX2_book 16 = .ok (.getfield 7, 3) := dk_180 0 7 (dk_at dksX2_book_0 16 rfl rfl)
theorem dX2_book_19 : decode cX2_book 19 = .ok (.bipush 8, 2) := dk_16 8 (dk_at dksX2_book_0 19 rfl rfl)
theorem dX2_book_21 : decode cX2_book 21 = .ok (.iaload, 1) := dk_46 (dk_at dksX2_book_0 21 rfl rfl)
theorem dX2_book_22 : decode cX2_book 22 = .ok (.iconst 1, 1) := dk_4 (dk_at dksX2_book_0 22 rfl rfl)
theorem dX2_book_23 : decode cX2_book 23 = .ok (.isub, 1) := dk_100 (dk_at dksX2_book_0 23 rfl rfl)
theorem dX2_book_24 : decode cX2_book 24 = .ok (.invokestatic 69, 3) := dk_184 0 69 (dk_at dksX2_book_1 0 rfl rfl)
theorem dX2_book_27 : decode cX2_book 27 = .ok (.ifCond .eq 21, 3) := dk_153 0 21 (dk_at dksX2_book_1 3 rfl rfl)
theorem dX2_book_30 : decode cX2_book 30 = .ok (.iload_n 2, 1) := dk_28 (dk_at dksX2_book_1 6 rfl rfl)
theorem dX2_book_31 : decode cX2_book 31 = .ok (.iconst 0, 1) := dk_3 (dk_at dksX2_book_1 7 rfl rfl)
theorem dX2_book_32 : decode cX2_book 32 = .ok (.iconst 3, 1) := dk_6 (dk_at dksX2_book_1 8 rfl rfl)
theorem dX2_book_33 : decode cX2_book 33 = .ok (.invokestatic 69, 3) := dk_184 0 69 (dk_at dksX2_book_1 9 rfl rfl)
theorem dX2_book_36 : decode cX2_book 36 = .ok (.ifCond .eq 12, 3) := dk_153 0 12 (dk_at dksX2_book_1 12 rfl rfl)
theorem dX2_book_39 : decode cX2_book 39 = .ok (.aload_n 0, 1) := dk_42 (dk_at dksX2_book_1 15 rfl rfl)
theorem dX2_book_40 : decode cX2_book 40 = .ok (.iload_n 1, 1) := dk_27 (dk_at dksX2_book_1 16 rfl rfl)
theorem dX2_book_41 : decode cX2_book 41 = .ok (.iload_n 2, 1) := dk_28 (dk_at dksX2_book_1 17 rfl rfl)
theorem dX2_book_42 : decode cX2_book 42 = .ok (.invokevirtual 370, 3) := dk_182 1 114 (dk_at dksX2_book_1 18 rfl rfl)
theorem dX2_book_45 : decode cX2_book 45 = .ok (.goto 5, 3) := dk_167 0 5 (dk_at dksX2_book_1 21 rfl rfl)
theorem dX2_book_48 : decode cX2_book 48 = .ok (.bipush (-2), 2) := dk_16 254 (dk_at dksX2_book_2 0 rfl rfl)
theorem dX2_book_50 : decode cX2_book 50 = .ok (.ireturn, 1) := dk_172 (dk_at dksX2_book_2 2 rfl rfl)
abbrev cX2_entry : ByteArray := prog_20_method_90_code
def yX2_entry : MethodName := ⟨RX2, "entry", "(II)I"⟩
def dkwX2_entry_2 : List UInt8 := [16, 30, 112, 167, 0, 7, 29, 16, 61, 112, 172]
abbrev dktX2_entry_2 : List UInt8 := dkwX2_entry_2 ++ []
def dkwX2_entry_1 : List UInt8 := [4, 160, 0, 14, 29, 17, 7, 38, 108, 16, 7, 112, 167, 0, 22, 28, 5, 160, 0, 13, 29, 16, 61, 108]
abbrev dktX2_entry_1 : List UInt8 := dkwX2_entry_1 ++ dktX2_entry_2
def dkwX2_entry_0 : List UInt8 := [42, 180, 0, 7, 17, 12, 103, 27, 96, 46, 62, 28, 154, 0, 11, 29, 17, 50, 10, 108, 167, 0, 38, 28]
abbrev dktX2_entry_0 : List UInt8 := dkwX2_entry_0 ++ dktX2_entry_1
theorem dksX2_entry_0 : cX2_entry.data.toList.drop 0 = dktX2_entry_0 := by decide +kernel
theorem dksX2_entry_1 : cX2_entry.data.toList.drop 24 = dktX2_entry_1 := dk_seg dksX2_entry_0 24 rfl rfl
theorem dksX2_entry_2 : cX2_entry.data.toList.drop 48 = dktX2_entry_2 := dk_seg dksX2_entry_1 24 rfl rfl
theorem dX2_entry_0 : decode cX2_entry 0 = .ok (.aload_n 0, 1) := dk_42 (dk_at dksX2_entry_0 0 rfl rfl)
theorem dX2_entry_1 : decode cX2_entry 1 = .ok (.getfield 7, 3) := dk_180 0 7 (dk_at dksX2_entry_0 1 rfl rfl)
theorem dX2_entry_4 : decode cX2_entry 4 = .ok (.sipush 3175, 3) := dk_17 12 103 (dk_at dksX2_entry_0 4 rfl rfl)
theorem dX2_entry_7 : decode cX2_entry 7 = .ok (.iload_n 1, 1) := dk_27 (dk_at dksX2_entry_0 7 rfl rfl)
theorem dX2_entry_8 : decode cX2_entry 8 = .ok (.iadd, 1) := dk_96 (dk_at dksX2_entry_0 8 rfl rfl)
theorem dX2_entry_9 : decode cX2_entry 9 = .ok (.iaload, 1) := dk_46 (dk_at dksX2_entry_0 9 rfl rfl)
theorem dX2_entry_10 : decode cX2_entry 10 = .ok (.istore_n 3, 1) := dk_62 (dk_at dksX2_entry_0 10 rfl rfl)
theorem dX2_entry_11 : decode cX2_entry 11 = .ok (.iload_n 2, 1) := dk_28 (dk_at dksX2_entry_0 11 rfl rfl)
theorem dX2_entry_12 : decode cX2_entry 12 = .ok (.ifCond .ne 11, 3) := dk_154 0 11 (dk_at dksX2_entry_0 12 rfl rfl)
theorem dX2_entry_15 : decode cX2_entry 15 = .ok (.iload_n 3, 1) := dk_29 (dk_at dksX2_entry_0 15 rfl rfl)
theorem dX2_entry_16 : decode cX2_entry 16 = .ok (.sipush 12810, 3) := dk_17 50 10 (dk_at dksX2_entry_0 16 rfl rfl)
theorem dX2_entry_19 : decode cX2_entry 19 = .ok (.idiv, 1) := dk_108 (dk_at dksX2_entry_0 19 rfl rfl)
theorem dX2_entry_20 : decode cX2_entry 20 = .ok (.goto 38, 3) := dk_167 0 38 (dk_at dksX2_entry_0 20 rfl rfl)
theorem dX2_entry_23 : decode cX2_entry 23 = .ok (.iload_n 2, 1) := dk_28 (dk_at dksX2_entry_0 23 rfl rfl)
theorem dX2_entry_24 : decode cX2_entry 24 = .ok (.iconst 1, 1) := dk_4 (dk_at dksX2_entry_1 0 rfl rfl)
theorem dX2_entry_25 : decode cX2_entry 25 = .ok (.if_icmp .ne 14, 3) := dk_160 0 14 (dk_at dksX2_entry_1 1 rfl rfl)
theorem dX2_entry_28 : decode cX2_entry 28 = .ok (.iload_n 3, 1) := dk_29 (dk_at dksX2_entry_1 4 rfl rfl)
theorem dX2_entry_29 : decode cX2_entry 29 = .ok (.sipush 1830, 3) := dk_17 7 38 (dk_at dksX2_entry_1 5 rfl rfl)
theorem dX2_entry_32 : decode cX2_entry 32 = .ok (.idiv, 1) := dk_108 (dk_at dksX2_entry_1 8 rfl rfl)
theorem dX2_entry_33 : decode cX2_entry 33 = .ok (.bipush 7, 2) := dk_16 7 (dk_at dksX2_entry_1 9 rfl rfl)
theorem dX2_entry_35 : decode cX2_entry 35 = .ok (.irem, 1) := dk_112 (dk_at dksX2_entry_1 11 rfl rfl)
theorem dX2_entry_36 : decode cX2_entry 36 = .ok (.goto 22, 3) := dk_167 0 22 (dk_at dksX2_entry_1 12 rfl rfl)
theorem dX2_entry_39 : decode cX2_entry 39 = .ok (.iload_n 2, 1) := dk_28 (dk_at dksX2_entry_1 15 rfl rfl)
theorem dX2_entry_40 : decode cX2_entry 40 = .ok (.iconst 2, 1) := dk_5 (dk_at dksX2_entry_1 16 rfl rfl)
theorem dX2_entry_41 : decode cX2_entry 41 = .ok (.if_icmp .ne 13, 3) := dk_160 0 13 (dk_at dksX2_entry_1 17 rfl rfl)
theorem dX2_entry_44 : decode cX2_entry 44 = .ok (.iload_n 3, 1) := dk_29 (dk_at dksX2_entry_1 20 rfl rfl)
theorem dX2_entry_45 : decode cX2_entry 45 = .ok (.bipush 61, 2) := dk_16 61 (dk_at dksX2_entry_1 21 rfl rfl)
theorem dX2_entry_47 : decode cX2_entry 47 = .ok (.idiv, 1) := dk_108 (dk_at dksX2_entry_1 23 rfl rfl)
theorem dX2_entry_48 : decode cX2_entry 48 = .ok (.bipush 30, 2) := dk_16 30 (dk_at dksX2_entry_2 0 rfl rfl)
theorem dX2_entry_50 : decode cX2_entry 50 = .ok (.irem, 1) := dk_112 (dk_at dksX2_entry_2 2 rfl rfl)
theorem dX2_entry_51 : decode cX2_entry 51 = .ok (.goto 7, 3) := dk_167 0 7 (dk_at dksX2_entry_2 3 rfl rfl)
theorem dX2_entry_54 : decode cX2_entry 54 = .ok (.iload_n 3, 1) := dk_29 (dk_at dksX2_entry_2 6 rfl rfl)
theorem dX2_entry_55 : decode cX2_entry 55 = .ok (.bipush 61, 2) := dk_16 61 (dk_at dksX2_entry_2 7 rfl rfl)
theorem dX2_entry_57 : decode cX2_entry 57 = .ok (.irem, 1) := dk_112 (dk_at dksX2_entry_2 9 rfl rfl)
theorem dX2_entry_58 : decode cX2_entry 58 = .ok (.ireturn, 1) := dk_172 (dk_at dksX2_entry_2 10 rfl rfl)
abbrev cX2_ledger : ByteArray := prog_20_method_92_code
def yX2_ledger : MethodName := ⟨RX2, "ledger", "(I)I"⟩
def dkwX2_ledger_2 : List UInt8 := [160, 0, 12, 42, 29, 6, 182, 1, 114, 167, 0, 4, 3, 96, 61, 132, 3, 1, 167, 255, 214, 28, 172]
abbrev dktX2_ledger_2 : List UInt8 := dkwX2_ledger_2 ++ []
def dkwX2_ledger_1 : List UInt8 := [180, 0, 7, 16, 8, 46, 162, 0, 37, 28, 27, 2, 159, 0, 13, 42, 29, 4, 182, 1, 114, 27]
abbrev dktX2_ledger_1 : List UInt8 := dkwX2_ledger_1 ++ dktX2_ledger_2
def dkwX2_ledger_0 : List UInt8 := [27, 2, 159, 0, 14, 42, 27, 182, 1, 66, 154, 0, 6, 16, 254, 172, 3, 61, 3, 62, 29, 42]
abbrev dktX2_ledger_0 : List UInt8 := dkwX2_ledger_0 ++ dktX2_ledger_1
theorem dksX2_ledger_0 : cX2_ledger.data.toList.drop 0 = dktX2_ledger_0 := by decide +kernel
theorem dksX2_ledger_1 : cX2_ledger.data.toList.drop 22 = dktX2_ledger_1 := dk_seg dksX2_ledger_0 22 rfl rfl
theorem dksX2_ledger_2 : cX2_ledger.data.toList.drop 44 = dktX2_ledger_2 := dk_seg dksX2_ledger_1 22 rfl rfl
theorem dX2_ledger_0 : decode cX2_ledger 0 = .ok (.iload_n 1, 1) := dk_27 (dk_at dksX2_ledger_0 0 rfl rfl)
theorem dX2_ledger_1 : decode cX2_ledger 1 = .ok (.iconst (-1), 1) := dk_2 (dk_at dksX2_ledger_0 1 rfl rfl)
theorem dX2_ledger_2 : decode cX2_ledger 2 = .ok (.if_icmp .eq 14, 3) := dk_159 0 14 (dk_at dksX2_ledger_0 2 rfl rfl)
theorem dX2_ledger_5 : decode cX2_ledger 5 = .ok (.aload_n 0, 1) := dk_42 (dk_at dksX2_ledger_0 5 rfl rfl)
theorem dX2_ledger_6 : decode cX2_ledger 6 = .ok (.iload_n 1, 1) := dk_27 (dk_at dksX2_ledger_0 6 rfl rfl)
theorem dX2_ledger_7 : decode cX2_ledger 7 = .ok (.invokevirtual 322, 3) := dk_182 1 66 (dk_at dksX2_ledger_0 7 rfl rfl)
theorem dX2_ledger_10 : decode cX2_ledger 10 = .ok (.ifCond .ne 6, 3) := dk_154 0 6 (dk_at dksX2_ledger_0 10 rfl rfl)
theorem dX2_ledger_13 : decode cX2_ledger 13 = .ok (.bipush (-2), 2) := dk_16 254 (dk_at dksX2_ledger_0 13 rfl rfl)
theorem dX2_ledger_15 : decode cX2_ledger 15 = .ok (.ireturn, 1) := dk_172 (dk_at dksX2_ledger_0 15 rfl rfl)
theorem dX2_ledger_16 : decode cX2_ledger 16 = .ok (.iconst 0, 1) := dk_3 (dk_at dksX2_ledger_0 16 rfl rfl)
theorem dX2_ledger_17 : decode cX2_ledger 17 = .ok (.istore_n 2, 1) := dk_61 (dk_at dksX2_ledger_0 17 rfl rfl)
theorem dX2_ledger_18 : decode cX2_ledger 18 = .ok (.iconst 0, 1) := dk_3 (dk_at dksX2_ledger_0 18 rfl rfl)
theorem dX2_ledger_19 : decode cX2_ledger 19 = .ok (.istore_n 3, 1) := dk_62 (dk_at dksX2_ledger_0 19 rfl rfl)
theorem dX2_ledger_20 : decode cX2_ledger 20 = .ok (.iload_n 3, 1) := dk_29 (dk_at dksX2_ledger_0 20 rfl rfl)
theorem dX2_ledger_21 : decode cX2_ledger 21 = .ok (.aload_n 0, 1) := dk_42 (dk_at dksX2_ledger_0 21 rfl rfl)
theorem dX2_ledger_22 : decode cX2_ledger 22 = .ok (.getfield 7, 3) := dk_180 0 7 (dk_at dksX2_ledger_1 0 rfl rfl)
theorem dX2_ledger_25 : decode cX2_ledger 25 = .ok (.bipush 8, 2) := dk_16 8 (dk_at dksX2_ledger_1 3 rfl rfl)
theorem dX2_ledger_27 : decode cX2_ledger 27 = .ok (.iaload, 1) := dk_46 (dk_at dksX2_ledger_1 5 rfl rfl)
theorem dX2_ledger_28 : decode cX2_ledger 28 = .ok (.if_icmp .ge 37, 3) := dk_162 0 37 (dk_at dksX2_ledger_1 6 rfl rfl)
theorem dX2_ledger_31 : decode cX2_ledger 31 = .ok (.iload_n 2, 1) := dk_28 (dk_at dksX2_ledger_1 9 rfl rfl)
theorem dX2_ledger_32 : decode cX2_ledger 32 = .ok (.iload_n 1, 1) := dk_27 (dk_at dksX2_ledger_1 10 rfl rfl)
theorem dX2_ledger_33 : decode cX2_ledger 33 = .ok (.iconst (-1), 1) := dk_2 (dk_at dksX2_ledger_1 11 rfl rfl)
theorem dX2_ledger_34 : decode cX2_ledger 34 = .ok (.if_icmp .eq 13, 3) := dk_159 0 13 (dk_at dksX2_ledger_1 12 rfl rfl)
theorem dX2_ledger_37 : decode cX2_ledger 37 = .ok (.aload_n 0, 1) := dk_42 (dk_at dksX2_ledger_1 15 rfl rfl)
theorem dX2_ledger_38 : decode cX2_ledger 38 = .ok (.iload_n 3, 1) := dk_29 (dk_at dksX2_ledger_1 16 rfl rfl)
theorem dX2_ledger_39 : decode cX2_ledger 39 = .ok (.iconst 1, 1) := dk_4 (dk_at dksX2_ledger_1 17 rfl rfl)
theorem dX2_ledger_40 : decode cX2_ledger 40 = .ok (.invokevirtual 370, 3) := dk_182 1 114 (dk_at dksX2_ledger_1 18 rfl rfl)
theorem dX2_ledger_43 : decode cX2_ledger 43 = .ok (.iload_n 1, 1) := dk_27 (dk_at dksX2_ledger_1 21 rfl rfl)
theorem dX2_ledger_44 : decode cX2_ledger 44 = .ok (.if_icmp .ne 12, 3) := dk_160 0 12 (dk_at dksX2_ledger_2 0 rfl rfl)
theorem dX2_ledger_47 : decode cX2_ledger 47 = .ok (.aload_n 0, 1) := dk_42 (dk_at dksX2_ledger_2 3 rfl rfl)
theorem dX2_ledger_48 : decode cX2_ledger 48 = .ok (.iload_n 3, 1) := dk_29 (dk_at dksX2_ledger_2 4 rfl rfl)
theorem dX2_ledger_49 : decode cX2_ledger 49 = .ok (.iconst 3, 1) := dk_6 (dk_at dksX2_ledger_2 5 rfl rfl)
theorem dX2_ledger_50 : decode cX2_ledger 50 = .ok (.invokevirtual 370, 3) := dk_182 1 114 (dk_at dksX2_ledger_2 6 rfl rfl)
theorem dX2_ledger_53 : decode cX2_ledger 53 = .ok (.goto 4, 3) := dk_167 0 4 (dk_at dksX2_ledger_2 9 rfl rfl)
theorem dX2_ledger_56 : decode cX2_ledger 56 = .ok (.iconst 0, 1) := dk_3 (dk_at dksX2_ledger_2 12 rfl rfl)
theorem dX2_ledger_57 : decode cX2_ledger 57 = .ok (.iadd, 1) := dk_96 (dk_at dksX2_ledger_2 13 rfl rfl)
theorem dX2_ledger_58 : decode cX2_ledger 58 = .ok (.istore_n 2, 1) := dk_61 (dk_at dksX2_ledger_2 14 rfl rfl)
theorem dX2_ledger_59 : decode cX2_ledger 59 = .ok (.iinc 3 1, 3) := dk_132 3 1 (dk_at dksX2_ledger_2 15 rfl rfl)
theorem dX2_ledger_62 : decode cX2_ledger 62 = .ok (.goto (-42), 3) := dk_167 255 214 (dk_at dksX2_ledger_2 18 rfl rfl)
theorem dX2_ledger_65 : decode cX2_ledger 65 = .ok (.iload_n 2, 1) := dk_28 (dk_at dksX2_ledger_2 21 rfl rfl)
theorem dX2_ledger_66 : decode cX2_ledger 66 = .ok (.ireturn, 1) := dk_172 (dk_at dksX2_ledger_2 22 rfl rfl)
abbrev cX2_greatest : ByteArray := prog_20_method_93_code
def yX2_greatest : MethodName := ⟨RX2, "greatest", "()I"⟩
def dkwX2_greatest_2 : List UInt8 := [96, 46, 164, 0, 5, 28, 60, 132, 2, 1, 167, 255, 202, 27, 172]
abbrev dktX2_greatest_2 : List UInt8 := dkwX2_greatest_2 ++ []
def dkwX2_greatest_1 : List UInt8 := [159, 0, 31, 27, 2, 159, 0, 24, 42, 180, 0, 7, 16, 69, 28, 96, 46, 42, 180, 0, 7, 16, 69, 27]
abbrev dktX2_greatest_1 : List UInt8 := dkwX2_greatest_1 ++ dktX2_greatest_2
def dkwX2_greatest_0 : List UInt8 := [2, 60, 3, 61, 28, 42, 180, 0, 7, 3, 46, 162, 0, 50, 42, 180, 0, 7, 16, 69, 28, 96, 46, 2]
abbrev dktX2_greatest_0 : List UInt8 := dkwX2_greatest_0 ++ dktX2_greatest_1
theorem dksX2_greatest_0 : cX2_greatest.data.toList.drop 0 = dktX2_greatest_0 := by decide +kernel
theorem dksX2_greatest_1 : cX2_greatest.data.toList.drop 24 = dktX2_greatest_1 := dk_seg dksX2_greatest_0 24 rfl rfl
theorem dksX2_greatest_2 : cX2_greatest.data.toList.drop 48 = dktX2_greatest_2 := dk_seg dksX2_greatest_1 24 rfl rfl
theorem dX2_greatest_0 : decode cX2_greatest 0 = .ok (.iconst (-1), 1) := dk_2 (dk_at dksX2_greatest_0 0 rfl rfl)
theorem dX2_greatest_1 : decode cX2_greatest 1 = .ok (.istore_n 1, 1) := dk_60 (dk_at dksX2_greatest_0 1 rfl rfl)
theorem dX2_greatest_2 : decode cX2_greatest 2 = .ok (.iconst 0, 1) := dk_3 (dk_at dksX2_greatest_0 2 rfl rfl)
theorem dX2_greatest_3 : decode cX2_greatest 3 = .ok (.istore_n 2, 1) := dk_61 (dk_at dksX2_greatest_0 3 rfl rfl)
theorem dX2_greatest_4 : decode cX2_greatest 4 = .ok (.iload_n 2, 1) := dk_28 (dk_at dksX2_greatest_0 4 rfl rfl)
theorem dX2_greatest_5 : decode cX2_greatest 5 = .ok (.aload_n 0, 1) := dk_42 (dk_at dksX2_greatest_0 5 rfl rfl)
theorem dX2_greatest_6 : decode cX2_greatest 6 = .ok (.getfield 7, 3) := dk_180 0 7 (dk_at dksX2_greatest_0 6 rfl rfl)
theorem dX2_greatest_9 : decode cX2_greatest 9 = .ok (.iconst 0, 1) := dk_3 (dk_at dksX2_greatest_0 9 rfl rfl)
theorem dX2_greatest_10 : decode cX2_greatest 10 = .ok (.iaload, 1) := dk_46 (dk_at dksX2_greatest_0 10 rfl rfl)
theorem dX2_greatest_11 : decode cX2_greatest 11 = .ok (.if_icmp .ge 50, 3) := dk_162 0 50 (dk_at dksX2_greatest_0 11 rfl rfl)
theorem dX2_greatest_14 : decode cX2_greatest 14 = .ok (.aload_n 0, 1) := dk_42 (dk_at dksX2_greatest_0 14 rfl rfl)
theorem dX2_greatest_15 : decode cX2_greatest 15 = .ok (.getfield 7, 3) := dk_180 0 7 (dk_at dksX2_greatest_0 15 rfl rfl)
theorem dX2_greatest_18 : decode cX2_greatest 18 = .ok (.bipush 69, 2) := dk_16 69 (dk_at dksX2_greatest_0 18 rfl rfl)
theorem dX2_greatest_20 : decode cX2_greatest 20 = .ok (.iload_n 2, 1) := dk_28 (dk_at dksX2_greatest_0 20 rfl rfl)
theorem dX2_greatest_21 : decode cX2_greatest 21 = .ok (.iadd, 1) := dk_96 (dk_at dksX2_greatest_0 21 rfl rfl)
theorem dX2_greatest_22 : decode cX2_greatest 22 = .ok (.iaload, 1) := dk_46 (dk_at dksX2_greatest_0 22 rfl rfl)
theorem dX2_greatest_23 : decode cX2_greatest 23 = .ok (.iconst (-1), 1) := dk_2 (dk_at dksX2_greatest_0 23 rfl rfl)
theorem dX2_greatest_24 : decode cX2_greatest 24 = .ok (.if_icmp .eq 31, 3) := dk_159 0 31 (dk_at dksX2_greatest_1 0 rfl rfl)
theorem dX2_greatest_27 : decode cX2_greatest 27 = .ok (.iload_n 1, 1) := dk_27 (dk_at dksX2_greatest_1 3 rfl rfl)
theorem dX2_greatest_28 : decode cX2_greatest 28 = .ok (.iconst (-1), 1) := dk_2 (dk_at dksX2_greatest_1 4 rfl rfl)
theorem dX2_greatest_29 : decode cX2_greatest 29 = .ok (.if_icmp .eq 24, 3) := dk_159 0 24 (dk_at dksX2_greatest_1 5 rfl rfl)
theorem dX2_greatest_32 : decode cX2_greatest 32 = .ok (.aload_n 0, 1) := dk_42 (dk_at dksX2_greatest_1 8 rfl rfl)
theorem dX2_greatest_33 : decode cX2_greatest 33 = .ok (.getfield 7, 3) := dk_180 0 7 (dk_at dksX2_greatest_1 9 rfl rfl)
theorem dX2_greatest_36 : decode cX2_greatest 36 = .ok (.bipush 69, 2) := dk_16 69 (dk_at dksX2_greatest_1 12 rfl rfl)
theorem dX2_greatest_38 : decode cX2_greatest 38 = .ok (.iload_n 2, 1) := dk_28 (dk_at dksX2_greatest_1 14 rfl rfl)
theorem dX2_greatest_39 : decode cX2_greatest 39 = .ok (.iadd, 1) := dk_96 (dk_at dksX2_greatest_1 15 rfl rfl)
theorem dX2_greatest_40 : decode cX2_greatest 40 = .ok (.iaload, 1) := dk_46 (dk_at dksX2_greatest_1 16 rfl rfl)
theorem dX2_greatest_41 : decode cX2_greatest 41 = .ok (.aload_n 0, 1) := dk_42 (dk_at dksX2_greatest_1 17 rfl rfl)
theorem dX2_greatest_42 : decode cX2_greatest 42 = .ok (.getfield 7, 3) := dk_180 0 7 (dk_at dksX2_greatest_1 18 rfl rfl)
theorem dX2_greatest_45 : decode cX2_greatest 45 = .ok (.bipush 69, 2) := dk_16 69 (dk_at dksX2_greatest_1 21 rfl rfl)
theorem dX2_greatest_47 : decode cX2_greatest 47 = .ok (.iload_n 1, 1) := dk_27 (dk_at dksX2_greatest_1 23 rfl rfl)
theorem dX2_greatest_48 : decode cX2_greatest 48 = .ok (.iadd, 1) := dk_96 (dk_at dksX2_greatest_2 0 rfl rfl)
theorem dX2_greatest_49 : decode cX2_greatest 49 = .ok (.iaload, 1) := dk_46 (dk_at dksX2_greatest_2 1 rfl rfl)
theorem dX2_greatest_50 : decode cX2_greatest 50 = .ok (.if_icmp .le 5, 3) := dk_164 0 5 (dk_at dksX2_greatest_2 2 rfl rfl)
theorem dX2_greatest_53 : decode cX2_greatest 53 = .ok (.iload_n 2, 1) := dk_28 (dk_at dksX2_greatest_2 5 rfl rfl)
theorem dX2_greatest_54 : decode cX2_greatest 54 = .ok (.istore_n 1, 1) := dk_60 (dk_at dksX2_greatest_2 6 rfl rfl)
theorem dX2_greatest_55 : decode cX2_greatest 55 = .ok (.iinc 2 1, 3) := dk_132 2 1 (dk_at dksX2_greatest_2 7 rfl rfl)
theorem dX2_greatest_58 : decode cX2_greatest 58 = .ok (.goto (-54), 3) := dk_167 255 202 (dk_at dksX2_greatest_2 10 rfl rfl)
theorem dX2_greatest_61 : decode cX2_greatest 61 = .ok (.iload_n 1, 1) := dk_27 (dk_at dksX2_greatest_2 13 rfl rfl)
theorem dX2_greatest_62 : decode cX2_greatest 62 = .ok (.ireturn, 1) := dk_172 (dk_at dksX2_greatest_2 14 rfl rfl)
abbrev cX2_twins : ByteArray := prog_20_method_94_code
def yX2_twins : MethodName := ⟨RX2, "twins", "()I"⟩
def dkwX2_twins_3 : List UInt8 := [132, 3, 1, 167, 255, 201, 132, 2, 1, 167, 255, 181, 27, 172]
abbrev dktX2_twins_3 : List UInt8 := dkwX2_twins_3 ++ []
def dkwX2_twins_2 : List UInt8 := [28, 96, 46, 42, 180, 0, 7, 16, 69, 29, 96, 46, 160, 0, 7, 4, 167, 0, 4, 3, 96, 60]
abbrev dktX2_twins_2 : List UInt8 := dkwX2_twins_2 ++ dktX2_twins_3
def dkwX2_twins_1 : List UInt8 := [46, 162, 0, 51, 27, 42, 180, 0, 7, 16, 69, 28, 96, 46, 2, 159, 0, 28, 42, 180, 0, 7, 16, 69]
abbrev dktX2_twins_1 : List UInt8 := dkwX2_twins_1 ++ dktX2_twins_2
def dkwX2_twins_0 : List UInt8 := [3, 60, 3, 61, 28, 42, 180, 0, 7, 3, 46, 162, 0, 71, 28, 4, 96, 62, 29, 42, 180, 0, 7, 3]
abbrev dktX2_twins_0 : List UInt8 := dkwX2_twins_0 ++ dktX2_twins_1
theorem dksX2_twins_0 : cX2_twins.data.toList.drop 0 = dktX2_twins_0 := by decide +kernel
theorem dksX2_twins_1 : cX2_twins.data.toList.drop 24 = dktX2_twins_1 := dk_seg dksX2_twins_0 24 rfl rfl
theorem dksX2_twins_2 : cX2_twins.data.toList.drop 48 = dktX2_twins_2 := dk_seg dksX2_twins_1 24 rfl rfl
theorem dksX2_twins_3 : cX2_twins.data.toList.drop 70 = dktX2_twins_3 := dk_seg dksX2_twins_2 22 rfl rfl
theorem dX2_twins_0 : decode cX2_twins 0 = .ok (.iconst 0, 1) := dk_3 (dk_at dksX2_twins_0 0 rfl rfl)
theorem dX2_twins_1 : decode cX2_twins 1 = .ok (.istore_n 1, 1) := dk_60 (dk_at dksX2_twins_0 1 rfl rfl)
theorem dX2_twins_2 : decode cX2_twins 2 = .ok (.iconst 0, 1) := dk_3 (dk_at dksX2_twins_0 2 rfl rfl)
theorem dX2_twins_3 : decode cX2_twins 3 = .ok (.istore_n 2, 1) := dk_61 (dk_at dksX2_twins_0 3 rfl rfl)
theorem dX2_twins_4 : decode cX2_twins 4 = .ok (.iload_n 2, 1) := dk_28 (dk_at dksX2_twins_0 4 rfl rfl)
theorem dX2_twins_5 : decode cX2_twins 5 = .ok (.aload_n 0, 1) := dk_42 (dk_at dksX2_twins_0 5 rfl rfl)
theorem dX2_twins_6 : decode cX2_twins 6 = .ok (.getfield 7, 3) := dk_180 0 7 (dk_at dksX2_twins_0 6 rfl rfl)
theorem dX2_twins_9 : decode cX2_twins 9 = .ok (.iconst 0, 1) := dk_3 (dk_at dksX2_twins_0 9 rfl rfl)
theorem dX2_twins_10 : decode cX2_twins 10 = .ok (.iaload, 1) := dk_46 (dk_at dksX2_twins_0 10 rfl rfl)
theorem dX2_twins_11 : decode cX2_twins 11 = .ok (.if_icmp .ge 71, 3) := dk_162 0 71 (dk_at dksX2_twins_0 11 rfl rfl)
theorem dX2_twins_14 : decode cX2_twins 14 = .ok (.iload_n 2, 1) := dk_28 (dk_at dksX2_twins_0 14 rfl rfl)
theorem dX2_twins_15 : decode cX2_twins 15 = .ok (.iconst 1, 1) := dk_4 (dk_at dksX2_twins_0 15 rfl rfl)
theorem dX2_twins_16 : decode cX2_twins 16 = .ok (.iadd, 1) := dk_96 (dk_at dksX2_twins_0 16 rfl rfl)
theorem dX2_twins_17 : decode cX2_twins 17 = .ok (.istore_n 3, 1) := dk_62 (dk_at dksX2_twins_0 17 rfl rfl)
theorem dX2_twins_18 : decode cX2_twins 18 = .ok (.iload_n 3, 1) := dk_29 (dk_at dksX2_twins_0 18 rfl rfl)
theorem dX2_twins_19 : decode cX2_twins 19 = .ok (.aload_n 0, 1) := dk_42 (dk_at dksX2_twins_0 19 rfl rfl)
theorem dX2_twins_20 : decode cX2_twins 20 = .ok (.getfield 7, 3) := dk_180 0 7 (dk_at dksX2_twins_0 20 rfl rfl)
theorem dX2_twins_23 : decode cX2_twins 23 = .ok (.iconst 0, 1) := dk_3 (dk_at dksX2_twins_0 23 rfl rfl)
theorem dX2_twins_24 : decode cX2_twins 24 = .ok (.iaload, 1) := dk_46 (dk_at dksX2_twins_1 0 rfl rfl)
theorem dX2_twins_25 : decode cX2_twins 25 = .ok (.if_icmp .ge 51, 3) := dk_162 0 51 (dk_at dksX2_twins_1 1 rfl rfl)
theorem dX2_twins_28 : decode cX2_twins 28 = .ok (.iload_n 1, 1) := dk_27 (dk_at dksX2_twins_1 4 rfl rfl)
theorem dX2_twins_29 : decode cX2_twins 29 = .ok (.aload_n 0, 1) := dk_42 (dk_at dksX2_twins_1 5 rfl rfl)
theorem dX2_twins_30 : decode cX2_twins 30 = .ok (.getfield 7, 3) := dk_180 0 7 (dk_at dksX2_twins_1 6 rfl rfl)
theorem dX2_twins_33 : decode cX2_twins 33 = .ok (.bipush 69, 2) := dk_16 69 (dk_at dksX2_twins_1 9 rfl rfl)
theorem dX2_twins_35 : decode cX2_twins 35 = .ok (.iload_n 2, 1) := dk_28 (dk_at dksX2_twins_1 11 rfl rfl)
theorem dX2_twins_36 : decode cX2_twins 36 = .ok (.iadd, 1) := dk_96 (dk_at dksX2_twins_1 12 rfl rfl)
theorem dX2_twins_37 : decode cX2_twins 37 = .ok (.iaload, 1) := dk_46 (dk_at dksX2_twins_1 13 rfl rfl)
theorem dX2_twins_38 : decode cX2_twins 38 = .ok (.iconst (-1), 1) := dk_2 (dk_at dksX2_twins_1 14 rfl rfl)
theorem dX2_twins_39 : decode cX2_twins 39 = .ok (.if_icmp .eq 28, 3) := dk_159 0 28 (dk_at dksX2_twins_1 15 rfl rfl)
theorem dX2_twins_42 : decode cX2_twins 42 = .ok (.aload_n 0, 1) := dk_42 (dk_at dksX2_twins_1 18 rfl rfl)
theorem dX2_twins_43 : decode cX2_twins 43 = .ok (.getfield 7, 3) := dk_180 0 7 (dk_at dksX2_twins_1 19 rfl rfl)
theorem dX2_twins_46 : decode cX2_twins 46 = .ok (.bipush 69, 2) := dk_16 69 (dk_at dksX2_twins_1 22 rfl rfl)
theorem dX2_twins_48 : decode cX2_twins 48 = .ok (.iload_n 2, 1) := dk_28 (dk_at dksX2_twins_2 0 rfl rfl)
theorem dX2_twins_49 : decode cX2_twins 49 = .ok (.iadd, 1) := dk_96 (dk_at dksX2_twins_2 1 rfl rfl)
theorem dX2_twins_50 : decode cX2_twins 50 = .ok (.iaload, 1) := dk_46 (dk_at dksX2_twins_2 2 rfl rfl)
theorem dX2_twins_51 : decode cX2_twins 51 = .ok (.aload_n 0, 1) := dk_42 (dk_at dksX2_twins_2 3 rfl rfl)
theorem dX2_twins_52 : decode cX2_twins 52 = .ok (.getfield 7, 3) := dk_180 0 7 (dk_at dksX2_twins_2 4 rfl rfl)
theorem dX2_twins_55 : decode cX2_twins 55 = .ok (.bipush 69, 2) := dk_16 69 (dk_at dksX2_twins_2 7 rfl rfl)
theorem dX2_twins_57 : decode cX2_twins 57 = .ok (.iload_n 3, 1) := dk_29 (dk_at dksX2_twins_2 9 rfl rfl)
theorem dX2_twins_58 : decode cX2_twins 58 = .ok (.iadd, 1) := dk_96 (dk_at dksX2_twins_2 10 rfl rfl)
theorem dX2_twins_59 : decode cX2_twins 59 = .ok (.iaload, 1) := dk_46 (dk_at dksX2_twins_2 11 rfl rfl)
theorem dX2_twins_60 : decode cX2_twins 60 = .ok (.if_icmp .ne 7, 3) := dk_160 0 7 (dk_at dksX2_twins_2 12 rfl rfl)
theorem dX2_twins_63 : decode cX2_twins 63 = .ok (.iconst 1, 1) := dk_4 (dk_at dksX2_twins_2 15 rfl rfl)
theorem dX2_twins_64 : decode cX2_twins 64 = .ok (.goto 4, 3) := dk_167 0 4 (dk_at dksX2_twins_2 16 rfl rfl)
theorem dX2_twins_67 : decode cX2_twins 67 = .ok (.iconst 0, 1) := dk_3 (dk_at dksX2_twins_2 19 rfl rfl)
theorem dX2_twins_68 : decode cX2_twins 68 = .ok (.iadd, 1) := dk_96 (dk_at dksX2_twins_2 20 rfl rfl)
theorem dX2_twins_69 : decode cX2_twins 69 = .ok (.istore_n 1, 1) := dk_60 (dk_at dksX2_twins_2 21 rfl rfl)
theorem dX2_twins_70 : decode cX2_twins 70 = .ok (.iinc 3 1, 3) := dk_132 3 1 (dk_at dksX2_twins_3 0 rfl rfl)
theorem dX2_twins_73 : decode cX2_twins 73 = .ok (.goto (-55), 3) := dk_167 255 201 (dk_at dksX2_twins_3 3 rfl rfl)
theorem dX2_twins_76 : decode cX2_twins 76 = .ok (.iinc 2 1, 3) := dk_132 2 1 (dk_at dksX2_twins_3 6 rfl rfl)
theorem dX2_twins_79 : decode cX2_twins 79 = .ok (.goto (-75), 3) := dk_167 255 181 (dk_at dksX2_twins_3 9 rfl rfl)
theorem dX2_twins_82 : decode cX2_twins 82 = .ok (.iload_n 1, 1) := dk_27 (dk_at dksX2_twins_3 12 rfl rfl)
theorem dX2_twins_83 : decode cX2_twins 83 = .ok (.ireturn, 1) := dk_172 (dk_at dksX2_twins_3 13 rfl rfl)
abbrev cX2_odd : ByteArray := prog_20_method_95_code
def yX2_odd : MethodName := ⟨RX2, "odd", "()I"⟩
def dkwX2_odd_2 : List UInt8 := [167, 0, 4, 3, 128, 60, 132, 2, 1, 167, 255, 205, 27, 172]
abbrev dktX2_odd_2 : List UInt8 := dkwX2_odd_2 ++ []
def dkwX2_odd_1 : List UInt8 := [2, 159, 0, 24, 42, 180, 0, 7, 16, 69, 28, 96, 46, 5, 112, 4, 160, 0, 9, 4, 28, 120]
abbrev dktX2_odd_1 : List UInt8 := dkwX2_odd_1 ++ dktX2_odd_2
def dkwX2_odd_0 : List UInt8 := [3, 60, 3, 61, 28, 42, 180, 0, 7, 3, 46, 162, 0, 47, 27, 42, 180, 0, 7, 16, 69, 28, 96, 46]
abbrev dktX2_odd_0 : List UInt8 := dkwX2_odd_0 ++ dktX2_odd_1
theorem dksX2_odd_0 : cX2_odd.data.toList.drop 0 = dktX2_odd_0 := by decide +kernel
theorem dksX2_odd_1 : cX2_odd.data.toList.drop 24 = dktX2_odd_1 := dk_seg dksX2_odd_0 24 rfl rfl
theorem dksX2_odd_2 : cX2_odd.data.toList.drop 46 = dktX2_odd_2 := dk_seg dksX2_odd_1 22 rfl rfl
theorem dX2_odd_0 : decode cX2_odd 0 = .ok (.iconst 0, 1) := dk_3 (dk_at dksX2_odd_0 0 rfl rfl)
theorem dX2_odd_1 : decode cX2_odd 1 = .ok (.istore_n 1, 1) := dk_60 (dk_at dksX2_odd_0 1 rfl rfl)
theorem dX2_odd_2 : decode cX2_odd 2 = .ok (.iconst 0, 1) := dk_3 (dk_at dksX2_odd_0 2 rfl rfl)
theorem dX2_odd_3 : decode cX2_odd 3 = .ok (.istore_n 2, 1) := dk_61 (dk_at dksX2_odd_0 3 rfl rfl)
theorem dX2_odd_4 : decode cX2_odd 4 = .ok (.iload_n 2, 1) := dk_28 (dk_at dksX2_odd_0 4 rfl rfl)
theorem dX2_odd_5 : decode cX2_odd 5 = .ok (.aload_n 0, 1) := dk_42 (dk_at dksX2_odd_0 5 rfl rfl)
theorem dX2_odd_6 : decode cX2_odd 6 = .ok (.getfield 7, 3) := dk_180 0 7 (dk_at dksX2_odd_0 6 rfl rfl)
theorem dX2_odd_9 : decode cX2_odd 9 = .ok (.iconst 0, 1) := dk_3 (dk_at dksX2_odd_0 9 rfl rfl)
theorem dX2_odd_10 : decode cX2_odd 10 = .ok (.iaload, 1) := dk_46 (dk_at dksX2_odd_0 10 rfl rfl)
theorem dX2_odd_11 : decode cX2_odd 11 = .ok (.if_icmp .ge 47, 3) := dk_162 0 47 (dk_at dksX2_odd_0 11 rfl rfl)
theorem dX2_odd_14 : decode cX2_odd 14 = .ok (.iload_n 1, 1) := dk_27 (dk_at dksX2_odd_0 14 rfl rfl)
theorem dX2_odd_15 : decode cX2_odd 15 = .ok (.aload_n 0, 1) := dk_42 (dk_at dksX2_odd_0 15 rfl rfl)
theorem dX2_odd_16 : decode cX2_odd 16 = .ok (.getfield 7, 3) := dk_180 0 7 (dk_at dksX2_odd_0 16 rfl rfl)
theorem dX2_odd_19 : decode cX2_odd 19 = .ok (.bipush 69, 2) := dk_16 69 (dk_at dksX2_odd_0 19 rfl rfl)
theorem dX2_odd_21 : decode cX2_odd 21 = .ok (.iload_n 2, 1) := dk_28 (dk_at dksX2_odd_0 21 rfl rfl)
theorem dX2_odd_22 : decode cX2_odd 22 = .ok (.iadd, 1) := dk_96 (dk_at dksX2_odd_0 22 rfl rfl)
theorem dX2_odd_23 : decode cX2_odd 23 = .ok (.iaload, 1) := dk_46 (dk_at dksX2_odd_0 23 rfl rfl)
theorem dX2_odd_24 : decode cX2_odd 24 = .ok (.iconst (-1), 1) := dk_2 (dk_at dksX2_odd_1 0 rfl rfl)
theorem dX2_odd_25 : decode cX2_odd 25 = .ok (.if_icmp .eq 24, 3) := dk_159 0 24 (dk_at dksX2_odd_1 1 rfl rfl)
theorem dX2_odd_28 : decode cX2_odd 28 = .ok (.aload_n 0, 1) := dk_42 (dk_at dksX2_odd_1 4 rfl rfl)
theorem dX2_odd_29 : decode cX2_odd 29 = .ok (.getfield 7, 3) := dk_180 0 7 (dk_at dksX2_odd_1 5 rfl rfl)
theorem dX2_odd_32 : decode cX2_odd 32 = .ok (.bipush 69, 2) := dk_16 69 (dk_at dksX2_odd_1 8 rfl rfl)
theorem dX2_odd_34 : decode cX2_odd 34 = .ok (.iload_n 2, 1) := dk_28 (dk_at dksX2_odd_1 10 rfl rfl)
theorem dX2_odd_35 : decode cX2_odd 35 = .ok (.iadd, 1) := dk_96 (dk_at dksX2_odd_1 11 rfl rfl)
theorem dX2_odd_36 : decode cX2_odd 36 = .ok (.iaload, 1) := dk_46 (dk_at dksX2_odd_1 12 rfl rfl)
theorem dX2_odd_37 : decode cX2_odd 37 = .ok (.iconst 2, 1) := dk_5 (dk_at dksX2_odd_1 13 rfl rfl)
theorem dX2_odd_38 : decode cX2_odd 38 = .ok (.irem, 1) := dk_112 (dk_at dksX2_odd_1 14 rfl rfl)
theorem dX2_odd_39 : decode cX2_odd 39 = .ok (.iconst 1, 1) := dk_4 (dk_at dksX2_odd_1 15 rfl rfl)
theorem dX2_odd_40 : decode cX2_odd 40 = .ok (.if_icmp .ne 9, 3) := dk_160 0 9 (dk_at dksX2_odd_1 16 rfl rfl)
theorem dX2_odd_43 : decode cX2_odd 43 = .ok (.iconst 1, 1) := dk_4 (dk_at dksX2_odd_1 19 rfl rfl)
theorem dX2_odd_44 : decode cX2_odd 44 = .ok (.iload_n 2, 1) := dk_28 (dk_at dksX2_odd_1 20 rfl rfl)
theorem dX2_odd_45 : decode cX2_odd 45 = .ok (.ishl, 1) := dk_120 (dk_at dksX2_odd_1 21 rfl rfl)
theorem dX2_odd_46 : decode cX2_odd 46 = .ok (.goto 4, 3) := dk_167 0 4 (dk_at dksX2_odd_2 0 rfl rfl)
theorem dX2_odd_49 : decode cX2_odd 49 = .ok (.iconst 0, 1) := dk_3 (dk_at dksX2_odd_2 3 rfl rfl)
theorem dX2_odd_50 : decode cX2_odd 50 = .ok (.ior, 1) := dk_128 (dk_at dksX2_odd_2 4 rfl rfl)
theorem dX2_odd_51 : decode cX2_odd 51 = .ok (.istore_n 1, 1) := dk_60 (dk_at dksX2_odd_2 5 rfl rfl)
theorem dX2_odd_52 : decode cX2_odd 52 = .ok (.iinc 2 1, 3) := dk_132 2 1 (dk_at dksX2_odd_2 6 rfl rfl)
theorem dX2_odd_55 : decode cX2_odd 55 = .ok (.goto (-51), 3) := dk_167 255 205 (dk_at dksX2_odd_2 9 rfl rfl)
theorem dX2_odd_58 : decode cX2_odd 58 = .ok (.iload_n 1, 1) := dk_27 (dk_at dksX2_odd_2 12 rfl rfl)
theorem dX2_odd_59 : decode cX2_odd 59 = .ok (.ireturn, 1) := dk_172 (dk_at dksX2_odd_2 13 rfl rfl)
abbrev cX2_thickest : ByteArray := prog_20_method_96_code
def yX2_thickest : MethodName := ⟨RX2, "thickest", "()I"⟩
def dkwX2_thickest_1 : List UInt8 := [16, 39, 27, 96, 46, 164, 0, 5, 28, 60, 132, 2, 1, 167, 255, 224, 27, 172]
abbrev dktX2_thickest_1 : List UInt8 := dkwX2_thickest_1 ++ []
def dkwX2_thickest_0 : List UInt8 := [3, 60, 4, 61, 28, 16, 30, 162, 0, 32, 42, 180, 0, 7, 16, 39, 28, 96, 46, 42, 180, 0, 7]
abbrev dktX2_thickest_0 : List UInt8 := dkwX2_thickest_0 ++ dktX2_thickest_1
theorem dksX2_thickest_0 : cX2_thickest.data.toList.drop 0 = dktX2_thickest_0 := by decide +kernel
theorem dksX2_thickest_1 : cX2_thickest.data.toList.drop 23 = dktX2_thickest_1 := dk_seg dksX2_thickest_0 23 rfl rfl
theorem dX2_thickest_0 : decode cX2_thickest 0 = .ok (.iconst 0, 1) := dk_3 (dk_at dksX2_thickest_0 0 rfl rfl)
theorem dX2_thickest_1 : decode cX2_thickest 1 = .ok (.istore_n 1, 1) := dk_60 (dk_at dksX2_thickest_0 1 rfl rfl)
theorem dX2_thickest_2 : decode cX2_thickest 2 = .ok (.iconst 1, 1) := dk_4 (dk_at dksX2_thickest_0 2 rfl rfl)
theorem dX2_thickest_3 : decode cX2_thickest 3 = .ok (.istore_n 2, 1) := dk_61 (dk_at dksX2_thickest_0 3 rfl rfl)
theorem dX2_thickest_4 : decode cX2_thickest 4 = .ok (.iload_n 2, 1) := dk_28 (dk_at dksX2_thickest_0 4 rfl rfl)
theorem dX2_thickest_5 : decode cX2_thickest 5 = .ok (.bipush 30, 2) := dk_16 30 (dk_at dksX2_thickest_0 5 rfl rfl)
theorem dX2_thickest_7 : decode cX2_thickest 7 = .ok (.if_icmp .ge 32, 3) := dk_162 0 32 (dk_at dksX2_thickest_0 7 rfl rfl)
theorem dX2_thickest_10 : decode cX2_thickest 10 = .ok (.aload_n 0, 1) := dk_42 (dk_at dksX2_thickest_0 10 rfl rfl)
theorem dX2_thickest_11 : decode cX2_thickest 11 = .ok (.getfield 7, 3) := dk_180 0 7 (dk_at dksX2_thickest_0 11 rfl rfl)
theorem dX2_thickest_14 : decode cX2_thickest 14 = .ok (.bipush 39, 2) := dk_16 39 (dk_at dksX2_thickest_0 14 rfl rfl)
theorem dX2_thickest_16 : decode cX2_thickest 16 = .ok (.iload_n 2, 1) := dk_28 (dk_at dksX2_thickest_0 16 rfl rfl)
theorem dX2_thickest_17 : decode cX2_thickest 17 = .ok (.iadd, 1) := dk_96 (dk_at dksX2_thickest_0 17 rfl rfl)
theorem dX2_thickest_18 : decode cX2_thickest 18 = .ok (.iaload, 1) := dk_46 (dk_at dksX2_thickest_0 18 rfl rfl)
theorem dX2_thickest_19 : decode cX2_thickest 19 = .ok (.aload_n 0, 1) := dk_42 (dk_at dksX2_thickest_0 19 rfl rfl)
theorem dX2_thickest_20 : decode cX2_thickest 20 = .ok (.getfield 7, 3) := dk_180 0 7 (dk_at dksX2_thickest_0 20 rfl rfl)
theorem dX2_thickest_23 : decode cX2_thickest 23 = .ok (.bipush 39, 2) := dk_16 39 (dk_at dksX2_thickest_1 0 rfl rfl)
theorem dX2_thickest_25 : decode cX2_thickest 25 = .ok (.iload_n 1, 1) := dk_27 (dk_at dksX2_thickest_1 2 rfl rfl)
theorem dX2_thickest_26 : decode cX2_thickest 26 = .ok (.iadd, 1) := dk_96 (dk_at dksX2_thickest_1 3 rfl rfl)
theorem dX2_thickest_27 : decode cX2_thickest 27 = .ok (.iaload, 1) := dk_46 (dk_at dksX2_thickest_1 4 rfl rfl)
theorem dX2_thickest_28 : decode cX2_thickest 28 = .ok (.if_icmp .le 5, 3) := dk_164 0 5 (dk_at dksX2_thickest_1 5 rfl rfl)
theorem dX2_thickest_31 : decode cX2_thickest 31 = .ok (.iload_n 2, 1) := dk_28 (dk_at dksX2_thickest_1 8 rfl rfl)
theorem dX2_thickest_32 : decode cX2_thickest 32 = .ok (.istore_n 1, 1) := dk_60 (dk_at dksX2_thickest_1 9 rfl rfl)
theorem dX2_thickest_33 : decode cX2_thickest 33 = .ok (.iinc 2 1, 3) := dk_132 2 1 (dk_at dksX2_thickest_1 10 rfl rfl)
theorem dX2_thickest_36 : decode cX2_thickest 36 = .ok (.goto (-32), 3) := dk_167 255 224 (dk_at dksX2_thickest_1 13 rfl rfl)
theorem dX2_thickest_39 : decode cX2_thickest 39 = .ok (.iload_n 1, 1) := dk_27 (dk_at dksX2_thickest_1 16 rfl rfl)
theorem dX2_thickest_40 : decode cX2_thickest 40 = .ok (.ireturn, 1) := dk_172 (dk_at dksX2_thickest_1 17 rfl rfl)
abbrev cX2_foretold : ByteArray := prog_20_method_97_code
def yX2_foretold : MethodName := ⟨RX2, "foretold", "(II)I"⟩
def dkwX2_foretold_5 : List UInt8 := [79, 132, 4, 1, 167, 255, 232, 42, 4, 181, 0, 43, 29, 172]
abbrev dktX2_foretold_5 : List UInt8 := dkwX2_foretold_5 ++ []
def dkwX2_foretold_4 : List UInt8 := [16, 6, 54, 4, 21, 4, 16, 76, 162, 0, 23, 42, 180, 0, 7, 21, 4, 42, 180, 0, 47, 21, 4, 46]
abbrev dktX2_foretold_4 : List UInt8 := dkwX2_foretold_4 ++ dktX2_foretold_5
def dkwX2_foretold_3 : List UInt8 := [162, 0, 7, 42, 182, 1, 78, 132, 3, 1, 167, 255, 231, 42, 180, 0, 7, 16, 69, 28, 96, 46, 62]
abbrev dktX2_foretold_3 : List UInt8 := dkwX2_foretold_3 ++ dktX2_foretold_4
def dkwX2_foretold_2 : List UInt8 := [42, 3, 181, 0, 43, 3, 62, 29, 27, 162, 0, 26, 42, 180, 0, 7, 16, 6, 46, 17, 39, 15]
abbrev dktX2_foretold_2 : List UInt8 := dkwX2_foretold_2 ++ dktX2_foretold_3
def dkwX2_foretold_1 : List UInt8 := [29, 16, 76, 162, 0, 21, 42, 180, 0, 47, 29, 42, 180, 0, 7, 29, 46, 79, 132, 3, 1, 167, 255, 235]
abbrev dktX2_foretold_1 : List UInt8 := dkwX2_foretold_1 ++ dktX2_foretold_2
def dkwX2_foretold_0 : List UInt8 := [27, 4, 16, 60, 184, 0, 69, 153, 0, 11, 42, 28, 182, 1, 66, 154, 0, 6, 16, 254, 172, 16, 6, 62]
abbrev dktX2_foretold_0 : List UInt8 := dkwX2_foretold_0 ++ dktX2_foretold_1
theorem dksX2_foretold_0 : cX2_foretold.data.toList.drop 0 = dktX2_foretold_0 := by decide +kernel
theorem dksX2_foretold_1 : cX2_foretold.data.toList.drop 24 = dktX2_foretold_1 := dk_seg dksX2_foretold_0 24 rfl rfl
theorem dksX2_foretold_2 : cX2_foretold.data.toList.drop 48 = dktX2_foretold_2 := dk_seg dksX2_foretold_1 24 rfl rfl
theorem dksX2_foretold_3 : cX2_foretold.data.toList.drop 70 = dktX2_foretold_3 := dk_seg dksX2_foretold_2 22 rfl rfl
theorem dksX2_foretold_4 : cX2_foretold.data.toList.drop 93 = dktX2_foretold_4 := dk_seg dksX2_foretold_3 23 rfl rfl
theorem dksX2_foretold_5 : cX2_foretold.data.toList.drop 117 = dktX2_foretold_5 := dk_seg dksX2_foretold_4 24 rfl rfl
theorem dX2_foretold_0 : decode cX2_foretold 0 = .ok (.iload_n 1, 1) := dk_27 (dk_at dksX2_foretold_0 0 rfl rfl)
theorem dX2_foretold_1 : decode cX2_foretold 1 = .ok (.iconst 1, 1) := dk_4 (dk_at dksX2_foretold_0 1 rfl rfl)
theorem dX2_foretold_2 : decode cX2_foretold 2 = .ok (.bipush 60, 2) := dk_16 60 (dk_at dksX2_foretold_0 2 rfl rfl)
theorem dX2_foretold_4 : decode cX2_foretold 4 = .ok (.invokestatic 69, 3) := dk_184 0 69 (dk_at dksX2_foretold_0 4 rfl rfl)
theorem dX2_foretold_7 : decode cX2_foretold 7 = .ok (.ifCond .eq 11, 3) := dk_153 0 11 (dk_at dksX2_foretold_0 7 rfl rfl)
theorem dX2_foretold_10 : decode cX2_foretold 10 = .ok (.aload_n 0, 1) := dk_42 (dk_at dksX2_foretold_0 10 rfl rfl)
theorem dX2_foretold_11 : decode cX2_foretold 11 = .ok (.iload_n 2, 1) := dk_28 (dk_at dksX2_foretold_0 11 rfl rfl)
theorem dX2_foretold_12 : decode cX2_foretold 12 = .ok (.invokevirtual 322, 3) := dk_182 1 66 (dk_at dksX2_foretold_0 12 rfl rfl)
theorem dX2_foretold_15 : decode cX2_foretold 15 = .ok (.ifCond .ne 6, 3) := dk_154 0 6 (dk_at dksX2_foretold_0 15 rfl rfl)
theorem dX2_foretold_18 : decode cX2_foretold 18 = .ok (.bipush (-2), 2) := dk_16 254 (dk_at dksX2_foretold_0 18 rfl rfl)
theorem dX2_foretold_20 : decode cX2_foretold 20 = .ok (.ireturn, 1) := dk_172 (dk_at dksX2_foretold_0 20 rfl rfl)
theorem dX2_foretold_21 : decode cX2_foretold 21 = .ok (.bipush 6, 2) := dk_16 6 (dk_at dksX2_foretold_0 21 rfl rfl)
theorem dX2_foretold_23 : decode cX2_foretold 23 = .ok (.istore_n 3, 1) := dk_62 (dk_at dksX2_foretold_0 23 rfl rfl)
theorem dX2_foretold_24 : decode cX2_foretold 24 = .ok (.iload_n 3, 1) := dk_29 (dk_at dksX2_foretold_1 0 rfl rfl)
theorem dX2_foretold_25 : decode cX2_foretold 25 = .ok (.bipush 76, 2) := dk_16 76 (dk_at dksX2_foretold_1 1 rfl rfl)
theorem dX2_foretold_27 : decode cX2_foretold 27 = .ok (.if_icmp .ge 21, 3) := dk_162 0 21 (dk_at dksX2_foretold_1 3 rfl rfl)
theorem dX2_foretold_30 : decode cX2_foretold 30 = .ok (.aload_n 0, 1) := dk_42 (dk_at dksX2_foretold_1 6 rfl rfl)
theorem dX2_foretold_31 : decode cX2_foretold 31 = .ok (.getfield 47, 3) := dk_180 0 47 (dk_at dksX2_foretold_1 7 rfl rfl)
theorem dX2_foretold_34 : decode cX2_foretold 34 = .ok (.iload_n 3, 1) := dk_29 (dk_at dksX2_foretold_1 10 rfl rfl)
theorem dX2_foretold_35 : decode cX2_foretold 35 = .ok (.aload_n 0, 1) := dk_42 (dk_at dksX2_foretold_1 11 rfl rfl)
theorem dX2_foretold_36 : decode cX2_foretold 36 = .ok (.getfield 7, 3) := dk_180 0 7 (dk_at dksX2_foretold_1 12 rfl rfl)
theorem dX2_foretold_39 : decode cX2_foretold 39 = .ok (.iload_n 3, 1) := dk_29 (dk_at dksX2_foretold_1 15 rfl rfl)
theorem dX2_foretold_40 : decode cX2_foretold 40 = .ok (.iaload, 1) := dk_46 (dk_at dksX2_foretold_1 16 rfl rfl)
theorem dX2_foretold_41 : decode cX2_foretold 41 = .ok (.iastore, 1) := dk_79 (dk_at dksX2_foretold_1 17 rfl rfl)
theorem dX2_foretold_42 : decode cX2_foretold 42 = .ok (.iinc 3 1, 3) := dk_132 3 1 (dk_at dksX2_foretold_1 18 rfl rfl)
theorem dX2_foretold_45 : decode cX2_foretold 45 = .ok (.goto (-21), 3) := dk_167 255 235 (dk_at dksX2_foretold_1 21 rfl rfl)
theorem dX2_foretold_48 : decode cX2_foretold 48 = .ok (.aload_n 0, 1) := dk_42 (dk_at dksX2_foretold_2 0 rfl rfl)
theorem dX2_foretold_49 : decode cX2_foretold 49 = .ok (.iconst 0, 1) := dk_3 (dk_at dksX2_foretold_2 1 rfl rfl)
theorem dX2_foretold_50 : decode cX2_foretold 50 = .ok (.putfield 43, 3) := dk_181 0 43 (dk_at dksX2_foretold_2 2 rfl rfl)
theorem dX2_foretold_53 : decode cX2_foretold 53 = .ok (.iconst 0, 1) := dk_3 (dk_at dksX2_foretold_2 5 rfl rfl)
theorem dX2_foretold_54 : decode cX2_foretold 54 = .ok (.istore_n 3, 1) := dk_62 (dk_at dksX2_foretold_2 6 rfl rfl)
theorem dX2_foretold_55 : decode cX2_foretold 55 = .ok (.iload_n 3, 1) := dk_29 (dk_at dksX2_foretold_2 7 rfl rfl)
theorem dX2_foretold_56 : decode cX2_foretold 56 = .ok (.iload_n 1, 1) := dk_27 (dk_at dksX2_foretold_2 8 rfl rfl)
theorem dX2_foretold_57 : decode cX2_foretold 57 = .ok (.if_icmp .ge 26, 3) := dk_162 0 26 (dk_at dksX2_foretold_2 9 rfl rfl)
theorem dX2_foretold_60 : decode cX2_foretold 60 = .ok (.aload_n 0, 1) := dk_42 (dk_at dksX2_foretold_2 12 rfl rfl)
theorem dX2_foretold_61 : decode cX2_foretold 61 = .ok (.getfield 7, 3) := dk_180 0 7 (dk_at dksX2_foretold_2 13 rfl rfl)
theorem dX2_foretold_64 : decode cX2_foretold 64 = .ok (.bipush 6, 2) := dk_16 6 (dk_at dksX2_foretold_2 16 rfl rfl)
theorem dX2_foretold_66 : decode cX2_foretold 66 = .ok (.iaload, 1) := dk_46 (dk_at dksX2_foretold_2 18 rfl rfl)
theorem dX2_foretold_67 : decode cX2_foretold 67 = .ok (.sipush 9999, 3) := dk_17 39 15 (dk_at dksX2_foretold_2 19 rfl rfl)
theorem dX2_foretold_70 : decode cX2_foretold 70 = .ok (.if_icmp .ge 7, 3) := dk_162 0 7 (dk_at dksX2_foretold_3 0 rfl rfl)
theorem dX2_foretold_73 : decode cX2_foretold 73 = .ok (.aload_n 0, 1) := dk_42 (dk_at dksX2_foretold_3 3 rfl rfl)
theorem dX2_foretold_74 : decode cX2_foretold 74 = .ok (.invokevirtual 334, 3) := dk_182 1 78 (dk_at dksX2_foretold_3 4 rfl rfl)
theorem dX2_foretold_77 : decode cX2_foretold 77 = .ok (.iinc 3 1, 3) := dk_132 3 1 (dk_at dksX2_foretold_3 7 rfl rfl)
theorem dX2_foretold_80 : decode cX2_foretold 80 = .ok (.goto (-25), 3) := dk_167 255 231 (dk_at dksX2_foretold_3 10 rfl rfl)
theorem dX2_foretold_83 : decode cX2_foretold 83 = .ok (.aload_n 0, 1) := dk_42 (dk_at dksX2_foretold_3 13 rfl rfl)
theorem dX2_foretold_84 : decode cX2_foretold 84 = .ok (.getfield 7, 3) := dk_180 0 7 (dk_at dksX2_foretold_3 14 rfl rfl)
theorem dX2_foretold_87 : decode cX2_foretold 87 = .ok (.bipush 69, 2) := dk_16 69 (dk_at dksX2_foretold_3 17 rfl rfl)
theorem dX2_foretold_89 : decode cX2_foretold 89 = .ok (.iload_n 2, 1) := dk_28 (dk_at dksX2_foretold_3 19 rfl rfl)
theorem dX2_foretold_90 : decode cX2_foretold 90 = .ok (.iadd, 1) := dk_96 (dk_at dksX2_foretold_3 20 rfl rfl)
theorem dX2_foretold_91 : decode cX2_foretold 91 = .ok (.iaload, 1) := dk_46 (dk_at dksX2_foretold_3 21 rfl rfl)
theorem dX2_foretold_92 : decode cX2_foretold 92 = .ok (.istore_n 3, 1) := dk_62 (dk_at dksX2_foretold_3 22 rfl rfl)
theorem dX2_foretold_93 : decode cX2_foretold 93 = .ok (.bipush 6, 2) := dk_16 6 (dk_at dksX2_foretold_4 0 rfl rfl)
theorem dX2_foretold_95 : decode cX2_foretold 95 = .ok (.istore 4, 2) := dk_54 4 (dk_at dksX2_foretold_4 2 rfl rfl)
theorem dX2_foretold_97 : decode cX2_foretold 97 = .ok (.iload 4, 2) := dk_21 4 (dk_at dksX2_foretold_4 4 rfl rfl)
theorem dX2_foretold_99 : decode cX2_foretold 99 = .ok (.bipush 76, 2) := dk_16 76 (dk_at dksX2_foretold_4 6 rfl rfl)
theorem dX2_foretold_101 : decode cX2_foretold 101 = .ok (.if_icmp .ge 23, 3) := dk_162 0 23 (dk_at dksX2_foretold_4 8 rfl rfl)
theorem dX2_foretold_104 : decode cX2_foretold 104 = .ok (.aload_n 0, 1) := dk_42 (dk_at dksX2_foretold_4 11 rfl rfl)
theorem dX2_foretold_105 : decode cX2_foretold 105 = .ok (.getfield 7, 3) := dk_180 0 7 (dk_at dksX2_foretold_4 12 rfl rfl)
theorem dX2_foretold_108 : decode cX2_foretold 108 = .ok (.iload 4, 2) := dk_21 4 (dk_at dksX2_foretold_4 15 rfl rfl)
theorem dX2_foretold_110 : decode cX2_foretold 110 = .ok (.aload_n 0, 1) := dk_42 (dk_at dksX2_foretold_4 17 rfl rfl)
theorem dX2_foretold_111 : decode cX2_foretold 111 = .ok (.getfield 47, 3) := dk_180 0 47 (dk_at dksX2_foretold_4 18 rfl rfl)
theorem dX2_foretold_114 : decode cX2_foretold 114 = .ok (.iload 4, 2) := dk_21 4 (dk_at dksX2_foretold_4 21 rfl rfl)
theorem dX2_foretold_116 : decode cX2_foretold 116 = .ok (.iaload, 1) := dk_46 (dk_at dksX2_foretold_4 23 rfl rfl)
theorem dX2_foretold_117 : decode cX2_foretold 117 = .ok (.iastore, 1) := dk_79 (dk_at dksX2_foretold_5 0 rfl rfl)
theorem dX2_foretold_118 : decode cX2_foretold 118 = .ok (.iinc 4 1, 3) := dk_132 4 1 (dk_at dksX2_foretold_5 1 rfl rfl)
theorem dX2_foretold_121 : decode cX2_foretold 121 = .ok (.goto (-24), 3) := dk_167 255 232 (dk_at dksX2_foretold_5 4 rfl rfl)
theorem dX2_foretold_124 : decode cX2_foretold 124 = .ok (.aload_n 0, 1) := dk_42 (dk_at dksX2_foretold_5 7 rfl rfl)
theorem dX2_foretold_125 : decode cX2_foretold 125 = .ok (.iconst 1, 1) := dk_4 (dk_at dksX2_foretold_5 8 rfl rfl)
theorem dX2_foretold_126 : decode cX2_foretold 126 = .ok (.putfield 43, 3) := dk_181 0 43 (dk_at dksX2_foretold_5 9 rfl rfl)
theorem dX2_foretold_129 : decode cX2_foretold 129 = .ok (.iload_n 3, 1) := dk_29 (dk_at dksX2_foretold_5 12 rfl rfl)
theorem dX2_foretold_130 : decode cX2_foretold 130 = .ok (.ireturn, 1) := dk_172 (dk_at dksX2_foretold_5 13 rfl rfl)
abbrev cX2_likely : ByteArray := prog_20_method_105_code
def yX2_likely : MethodName := ⟨RX2, "likely", "(IIIZ)J"⟩
def dkwX2_likely_1 : List UInt8 := [182, 1, 134, 29, 184, 1, 137, 21, 4, 184, 1, 141, 167, 0, 6, 20, 1, 145, 173]
abbrev dktX2_likely_1 : List UInt8 := dkwX2_likely_1 ++ []
def dkwX2_likely_0 : List UInt8 := [42, 27, 28, 182, 1, 131, 153, 0, 32, 29, 3, 16, 12, 184, 0, 69, 153, 0, 22, 42, 27, 28, 29]
abbrev dktX2_likely_0 : List UInt8 := dkwX2_likely_0 ++ dktX2_likely_1
theorem dksX2_likely_0 : cX2_likely.data.toList.drop 0 = dktX2_likely_0 := by decide +kernel
theorem dksX2_likely_1 : cX2_likely.data.toList.drop 23 = dktX2_likely_1 := dk_seg dksX2_likely_0 23 rfl rfl
theorem dX2_likely_0 : decode cX2_likely 0 = .ok (.aload_n 0, 1) := dk_42 (dk_at dksX2_likely_0 0 rfl rfl)
theorem dX2_likely_1 : decode cX2_likely 1 = .ok (.iload_n 1, 1) := dk_27 (dk_at dksX2_likely_0 1 rfl rfl)
theorem dX2_likely_2 : decode cX2_likely 2 = .ok (.iload_n 2, 1) := dk_28 (dk_at dksX2_likely_0 2 rfl rfl)
theorem dX2_likely_3 : decode cX2_likely 3 = .ok (.invokevirtual 387, 3) := dk_182 1 131 (dk_at dksX2_likely_0 3 rfl rfl)
theorem dX2_likely_6 : decode cX2_likely 6 = .ok (.ifCond .eq 32, 3) := dk_153 0 32 (dk_at dksX2_likely_0 6 rfl rfl)
theorem dX2_likely_9 : decode cX2_likely 9 = .ok (.iload_n 3, 1) := dk_29 (dk_at dksX2_likely_0 9 rfl rfl)
theorem dX2_likely_10 : decode cX2_likely 10 = .ok (.iconst 0, 1) := dk_3 (dk_at dksX2_likely_0 10 rfl rfl)
theorem dX2_likely_11 : decode cX2_likely 11 = .ok (.bipush 12, 2) := dk_16 12 (dk_at dksX2_likely_0 11 rfl rfl)
theorem dX2_likely_13 : decode cX2_likely 13 = .ok (.invokestatic 69, 3) := dk_184 0 69 (dk_at dksX2_likely_0 13 rfl rfl)
theorem dX2_likely_16 : decode cX2_likely 16 = .ok (.ifCond .eq 22, 3) := dk_153 0 22 (dk_at dksX2_likely_0 16 rfl rfl)
theorem dX2_likely_19 : decode cX2_likely 19 = .ok (.aload_n 0, 1) := dk_42 (dk_at dksX2_likely_0 19 rfl rfl)
theorem dX2_likely_20 : decode cX2_likely 20 = .ok (.iload_n 1, 1) := dk_27 (dk_at dksX2_likely_0 20 rfl rfl)
theorem dX2_likely_21 : decode cX2_likely 21 = .ok (.iload_n 2, 1) := dk_28 (dk_at dksX2_likely_0 21 rfl rfl)
theorem dX2_likely_22 : decode cX2_likely 22 = .ok (.iload_n 3, 1) := dk_29 (dk_at dksX2_likely_0 22 rfl rfl)
theorem dX2_likely_23 : decode cX2_likely 23 = .ok (.invokevirtual 390, 3) := dk_182 1 134 (dk_at dksX2_likely_1 0 rfl rfl)
theorem dX2_likely_26 : decode cX2_likely 26 = .ok (.iload_n 3, 1) := dk_29 (dk_at dksX2_likely_1 3 rfl rfl)
theorem dX2_likely_27 : decode cX2_likely 27 = .ok (.invokestatic 393, 3) := dk_184 1 137 (dk_at dksX2_likely_1 4 rfl rfl)
theorem dX2_likely_30 : decode cX2_likely 30 = .ok (.iload 4, 2) := dk_21 4 (dk_at dksX2_likely_1 7 rfl rfl)
theorem dX2_likely_32 : decode cX2_likely 32 = .ok (.invokestatic 397, 3) := dk_184 1 141 (dk_at dksX2_likely_1 9 rfl rfl)
theorem dX2_likely_35 : decode cX2_likely 35 = .ok (.goto 6, 3) := dk_167 0 6 (dk_at dksX2_likely_1 12 rfl rfl)
theorem dX2_likely_38 : decode cX2_likely 38 = .ok (.ldc2_w 401, 3) := dk_20 1 145 (dk_at dksX2_likely_1 15 rfl rfl)
theorem dX2_likely_41 : decode cX2_likely 41 = .ok (.lreturn, 1) := dk_173 (dk_at dksX2_likely_1 18 rfl rfl)
abbrev cX2_areRunning : ByteArray := prog_20_method_104_code
def yX2_areRunning : MethodName := ⟨RX2, "areRunning", "(II)Z"⟩
def dkwX2_areRunning_0 : List UInt8 := [42, 27, 182, 1, 66, 153, 0, 14, 28, 184, 0, 73, 153, 0, 7, 4, 167, 0, 4, 3, 172]
abbrev dktX2_areRunning_0 : List UInt8 := dkwX2_areRunning_0 ++ []
theorem dksX2_areRunning_0 : cX2_areRunning.data.toList.drop 0 = dktX2_areRunning_0 := by decide +kernel
theorem dX2_areRunning_0 : decode cX2_areRunning 0 = .ok (.aload_n 0, 1) := dk_42 (dk_at dksX2_areRunning_0 0 rfl rfl)
theorem dX2_areRunning_1 : decode cX2_areRunning 1 = .ok (.iload_n 1, 1) := dk_27 (dk_at dksX2_areRunning_0 1 rfl rfl)
theorem dX2_areRunning_2 : decode cX2_areRunning 2 = .ok (.invokevirtual 322, 3) := dk_182 1 66 (dk_at dksX2_areRunning_0 2 rfl rfl)
theorem dX2_areRunning_5 : decode cX2_areRunning 5 = .ok (.ifCond .eq 14, 3) := dk_153 0 14 (dk_at dksX2_areRunning_0 5 rfl rfl)
theorem dX2_areRunning_8 : decode cX2_areRunning 8 = .ok (.iload_n 2, 1) := dk_28 (dk_at dksX2_areRunning_0 8 rfl rfl)
theorem dX2_areRunning_9 : decode cX2_areRunning 9 = .ok (.invokestatic 73, 3) := dk_184 0 73 (dk_at dksX2_areRunning_0 9 rfl rfl)
theorem dX2_areRunning_12 : decode cX2_areRunning 12 = .ok (.ifCond .eq 7, 3) := dk_153 0 7 (dk_at dksX2_areRunning_0 12 rfl rfl)
theorem dX2_areRunning_15 : decode cX2_areRunning 15 = .ok (.iconst 1, 1) := dk_4 (dk_at dksX2_areRunning_0 15 rfl rfl)
theorem dX2_areRunning_16 : decode cX2_areRunning 16 = .ok (.goto 4, 3) := dk_167 0 4 (dk_at dksX2_areRunning_0 16 rfl rfl)
theorem dX2_areRunning_19 : decode cX2_areRunning 19 = .ok (.iconst 0, 1) := dk_3 (dk_at dksX2_areRunning_0 19 rfl rfl)
theorem dX2_areRunning_20 : decode cX2_areRunning 20 = .ok (.ireturn, 1) := dk_172 (dk_at dksX2_areRunning_0 20 rfl rfl)
abbrev cX2_weightOf : ByteArray := prog_20_method_100_code
def yX2_weightOf : MethodName := ⟨RX2, "weightOf", "(III)J"⟩
def dkwX2_weightOf_3 : List UInt8 := [180, 1, 117, 160, 0, 8, 16, 10, 167, 0, 9, 42, 27, 29, 182, 1, 123, 133, 105, 173]
abbrev dktX2_weightOf_3 : List UInt8 := dkwX2_weightOf_3 ++ []
def dkwX2_weightOf_2 : List UInt8 := [16, 10, 42, 27, 21, 6, 182, 1, 123, 100, 133, 105, 55, 4, 132, 6, 1, 167, 255, 231, 22, 4, 29, 42]
abbrev dktX2_weightOf_2 : List UInt8 := dkwX2_weightOf_2 ++ dktX2_weightOf_3
def dkwX2_weightOf_1 : List UInt8 := [154, 0, 7, 10, 167, 0, 4, 9, 173, 10, 55, 4, 4, 54, 6, 21, 6, 29, 162, 0, 25, 22, 4]
abbrev dktX2_weightOf_1 : List UInt8 := dkwX2_weightOf_1 ++ dktX2_weightOf_2
def dkwX2_weightOf_0 : List UInt8 := [42, 28, 182, 1, 120, 29, 42, 180, 1, 117, 164, 0, 5, 9, 173, 29, 154, 0, 16, 42, 180, 1, 117]
abbrev dktX2_weightOf_0 : List UInt8 := dkwX2_weightOf_0 ++ dktX2_weightOf_1
theorem dksX2_weightOf_0 : cX2_weightOf.data.toList.drop 0 = dktX2_weightOf_0 := by decide +kernel
theorem dksX2_weightOf_1 : cX2_weightOf.data.toList.drop 23 = dktX2_weightOf_1 := dk_seg dksX2_weightOf_0 23 rfl rfl
theorem dksX2_weightOf_2 : cX2_weightOf.data.toList.drop 46 = dktX2_weightOf_2 := dk_seg dksX2_weightOf_1 23 rfl rfl
theorem dksX2_weightOf_3 : cX2_weightOf.data.toList.drop 70 = dktX2_weightOf_3 := dk_seg dksX2_weightOf_2 24 rfl rfl
theorem dX2_weightOf_0 : decode cX2_weightOf 0 = .ok (.aload_n 0, 1) := dk_42 (dk_at dksX2_weightOf_0 0 rfl rfl)
theorem dX2_weightOf_1 : decode cX2_weightOf 1 = .ok (.iload_n 2, 1) := dk_28 (dk_at dksX2_weightOf_0 1 rfl rfl)
theorem dX2_weightOf_2 : decode cX2_weightOf 2 = .ok (.invokevirtual 376, 3) := dk_182 1 120 (dk_at dksX2_weightOf_0 2 rfl rfl)
theorem dX2_weightOf_5 : decode cX2_weightOf 5 = .ok (.iload_n 3, 1) := dk_29 (dk_at dksX2_weightOf_0 5 rfl rfl)
theorem dX2_weightOf_6 : decode cX2_weightOf 6 = .ok (.aload_n 0, 1) := dk_42 (dk_at dksX2_weightOf_0 6 rfl rfl)
theorem dX2_weightOf_7 : decode cX2_weightOf 7 = .ok (.getfield 373, 3) := dk_180 1 117 (dk_at dksX2_weightOf_0 7 rfl rfl)
theorem dX2_weightOf_10 : decode cX2_weightOf 10 = .ok (.if_icmp .le 5, 3) := dk_164 0 5 (dk_at dksX2_weightOf_0 10 rfl rfl)
theorem dX2_weightOf_13 : decode cX2_weightOf 13 = .ok (.lconst 0, 1) := dk_9 (dk_at dksX2_weightOf_0 13 rfl rfl)
theorem dX2_weightOf_14 : decode cX2_weightOf 14 = .ok (.lreturn, 1) := dk_173 (dk_at dksX2_weightOf_0 14 rfl rfl)
theorem dX2_weightOf_15 : decode cX2_weightOf 15 = .ok (.iload_n 3, 1) := dk_29 (dk_at dksX2_weightOf_0 15 rfl rfl)
theorem dX2_weightOf_16 : decode cX2_weightOf 16 = .ok (.ifCond .ne 16, 3) := dk_154 0 16 (dk_at dksX2_weightOf_0 16 rfl rfl)
theorem dX2_weightOf_19 : decode cX2_weightOf 19 = .ok (.aload_n 0, 1) := dk_42 (dk_at dksX2_weightOf_0 19 rfl rfl)
theorem dX2_weightOf_20 : decode cX2_weightOf 20 = .ok (.getfield 373, 3) := dk_180 1 117 (dk_at dksX2_weightOf_0 20 rfl rfl)
theorem dX2_weightOf_23 : decode cX2_weightOf 23 = .ok (.ifCond .ne 7, 3) := dk_154 0 7 (dk_at dksX2_weightOf_1 0 rfl rfl)
theorem dX2_weightOf_26 : decode cX2_weightOf 26 = .ok (.lconst 1, 1) := dk_10 (dk_at dksX2_weightOf_1 3 rfl rfl)
theorem dX2_weightOf_27 : decode cX2_weightOf 27 = .ok (.goto 4, 3) := dk_167 0 4 (dk_at dksX2_weightOf_1 4 rfl rfl)
theorem dX2_weightOf_30 : decode cX2_weightOf 30 = .ok (.lconst 0, 1) := dk_9 (dk_at dksX2_weightOf_1 7 rfl rfl)
theorem dX2_weightOf_31 : decode cX2_weightOf 31 = .ok (.lreturn, 1) := dk_173 (dk_at dksX2_weightOf_1 8 rfl rfl)
theorem dX2_weightOf_32 : decode cX2_weightOf 32 = .ok (.lconst 1, 1) := dk_10 (dk_at dksX2_weightOf_1 9 rfl rfl)
theorem dX2_weightOf_33 : decode cX2_weightOf 33 = .ok (.lstore 4, 2) := dk_55 4 (dk_at dksX2_weightOf_1 10 rfl rfl)
theorem dX2_weightOf_35 : decode cX2_weightOf 35 = .ok (.iconst 1, 1) := dk_4 (dk_at dksX2_weightOf_1 12 rfl rfl)
theorem dX2_weightOf_36 : decode cX2_weightOf 36 = .ok (.istore 6, 2) := dk_54 6 (dk_at dksX2_weightOf_1 13 rfl rfl)
theorem dX2_weightOf_38 : decode cX2_weightOf 38 = .ok (.iload 6, 2) := dk_21 6 (dk_at dksX2_weightOf_1 15 rfl rfl)
theorem dX2_weightOf_40 : decode cX2_weightOf 40 = .ok (.iload_n 3, 1) := dk_29 (dk_at dksX2_weightOf_1 17 rfl rfl)
theorem dX2_weightOf_41 : decode cX2_weightOf 41 = .ok (.if_icmp .ge 25, 3) := dk_162 0 25 (dk_at dksX2_weightOf_1 18 rfl rfl)
theorem dX2_weightOf_44 : decode cX2_weightOf 44 = .ok (.lload 4, 2) := dk_22 4 (dk_at dksX2_weightOf_1 21 rfl rfl)
theorem dX2_weightOf_46 : decode cX2_weightOf 46 = .ok (.bipush 10, 2) := dk_16 10 (dk_at dksX2_weightOf_2 0 rfl rfl)
theorem dX2_weightOf_48 : decode cX2_weightOf 48 = .ok (.aload_n 0, 1) := dk_42 (dk_at dksX2_weightOf_2 2 rfl rfl)
theorem dX2_weightOf_49 : decode cX2_weightOf 49 = .ok (.iload_n 1, 1) := dk_27 (dk_at dksX2_weightOf_2 3 rfl rfl)
theorem dX2_weightOf_50 : decode cX2_weightOf 50 = .ok (.iload 6, 2) := dk_21 6 (dk_at dksX2_weightOf_2 4 rfl rfl)
theorem dX2_weightOf_52 : decode cX2_weightOf 52 = .ok (.invokevirtual 379, 3) := dk_182 1 123 (dk_at dksX2_weightOf_2 6 rfl rfl)
theorem dX2_weightOf_55 : decode cX2_weightOf 55 = .ok (.isub, 1) := dk_100 (dk_at dksX2_weightOf_2 9 rfl rfl)
theorem dX2_weightOf_56 : decode cX2_weightOf 56 = .ok (.i2l, 1) := dk_133 (dk_at dksX2_weightOf_2 10 rfl rfl)
theorem dX2_weightOf_57 : decode cX2_weightOf 57 = .ok (.lmul, 1) := dk_105 (dk_at dksX2_weightOf_2 11 rfl rfl)
theorem dX2_weightOf_58 : decode cX2_weightOf 58 = .ok (.lstore 4, 2) := dk_55 4 (dk_at dksX2_weightOf_2 12 rfl rfl)
theorem dX2_weightOf_60 : decode cX2_weightOf 60 = .ok (.iinc 6 1, 3) := dk_132 6 1 (dk_at dksX2_weightOf_2 14 rfl rfl)
theorem dX2_weightOf_63 : decode cX2_weightOf 63 = .ok (.goto (-25), 3) := dk_167 255 231 (dk_at dksX2_weightOf_2 17 rfl rfl)
theorem dX2_weightOf_66 : decode cX2_weightOf 66 = .ok (.lload 4, 2) := dk_22 4 (dk_at dksX2_weightOf_2 20 rfl rfl)
theorem dX2_weightOf_68 : decode cX2_weightOf 68 = .ok (.iload_n 3, 1) := dk_29 (dk_at dksX2_weightOf_2 22 rfl rfl)
theorem dX2_weightOf_69 : decode cX2_weightOf 69 = .ok (.aload_n 0, 1) := dk_42 (dk_at dksX2_weightOf_2 23 rfl rfl)
theorem dX2_weightOf_70 : decode cX2_weightOf 70 = .ok (.getfield 373, 3) := dk_180 1 117 (dk_at dksX2_weightOf_3 0 rfl rfl)
theorem dX2_weightOf_73 : decode cX2_weightOf 73 = .ok (.if_icmp .ne 8, 3) := dk_160 0 8 (dk_at dksX2_weightOf_3 3 rfl rfl)
theorem dX2_weightOf_76 : decode cX2_weightOf 76 = .ok (.bipush 10, 2) := dk_16 10 (dk_at dksX2_weightOf_3 6 rfl rfl)
theorem dX2_weightOf_78 : decode cX2_weightOf 78 = .ok (.goto 9, 3) := dk_167 0 9 (dk_at dksX2_weightOf_3 8 rfl rfl)
theorem dX2_weightOf_81 : decode cX2_weightOf 81 = .ok (.aload_n 0, 1) := dk_42 (dk_at dksX2_weightOf_3 11 rfl rfl)
theorem dX2_weightOf_82 : decode cX2_weightOf 82 = .ok (.iload_n 1, 1) := dk_27 (dk_at dksX2_weightOf_3 12 rfl rfl)
theorem dX2_weightOf_83 : decode cX2_weightOf 83 = .ok (.iload_n 3, 1) := dk_29 (dk_at dksX2_weightOf_3 13 rfl rfl)
theorem dX2_weightOf_84 : decode cX2_weightOf 84 = .ok (.invokevirtual 379, 3) := dk_182 1 123 (dk_at dksX2_weightOf_3 14 rfl rfl)
theorem dX2_weightOf_87 : decode cX2_weightOf 87 = .ok (.i2l, 1) := dk_133 (dk_at dksX2_weightOf_3 17 rfl rfl)
theorem dX2_weightOf_88 : decode cX2_weightOf 88 = .ok (.lmul, 1) := dk_105 (dk_at dksX2_weightOf_3 18 rfl rfl)
theorem dX2_weightOf_89 : decode cX2_weightOf 89 = .ok (.lreturn, 1) := dk_173 (dk_at dksX2_weightOf_3 19 rfl rfl)
abbrev cX2_layBars : ByteArray := prog_20_method_98_code
def yX2_layBars : MethodName := ⟨RX2, "layBars", "(I)V"⟩
def dkwX2_layBars_3 : List UInt8 := [132, 2, 1, 167, 255, 191, 177]
abbrev dktX2_layBars_3 : List UInt8 := dkwX2_layBars_3 ++ []
def dkwX2_layBars_2 : List UInt8 := [167, 0, 23, 42, 180, 0, 50, 42, 180, 1, 117, 29, 79, 42, 89, 180, 1, 117, 4, 96, 181, 1, 117]
abbrev dktX2_layBars_2 : List UInt8 := dkwX2_layBars_2 ++ dktX2_layBars_3
def dkwX2_layBars_1 : List UInt8 := [112, 96, 46, 6, 159, 0, 47, 27, 28, 96, 16, 30, 112, 62, 42, 29, 182, 1, 44, 154, 0, 6]
abbrev dktX2_layBars_1 : List UInt8 := dkwX2_layBars_1 ++ dktX2_layBars_2
def dkwX2_layBars_0 : List UInt8 := [42, 3, 181, 1, 117, 3, 61, 28, 16, 60, 162, 0, 65, 42, 180, 0, 7, 16, 9, 27, 28, 96, 16, 30]
abbrev dktX2_layBars_0 : List UInt8 := dkwX2_layBars_0 ++ dktX2_layBars_1
theorem dksX2_layBars_0 : cX2_layBars.data.toList.drop 0 = dktX2_layBars_0 := by decide +kernel
theorem dksX2_layBars_1 : cX2_layBars.data.toList.drop 24 = dktX2_layBars_1 := dk_seg dksX2_layBars_0 24 rfl rfl
theorem dksX2_layBars_2 : cX2_layBars.data.toList.drop 46 = dktX2_layBars_2 := dk_seg dksX2_layBars_1 22 rfl rfl
theorem dksX2_layBars_3 : cX2_layBars.data.toList.drop 69 = dktX2_layBars_3 := dk_seg dksX2_layBars_2 23 rfl rfl
theorem dX2_layBars_0 : decode cX2_layBars 0 = .ok (.aload_n 0, 1) := dk_42 (dk_at dksX2_layBars_0 0 rfl rfl)
theorem dX2_layBars_1 : decode cX2_layBars 1 = .ok (.iconst 0, 1) := dk_3 (dk_at dksX2_layBars_0 1 rfl rfl)
theorem dX2_layBars_2 : decode cX2_layBars 2 = .ok (.putfield 373, 3) := dk_181 1 117 (dk_at dksX2_layBars_0 2 rfl rfl)
theorem dX2_layBars_5 : decode cX2_layBars 5 = .ok (.iconst 0, 1) := dk_3 (dk_at dksX2_layBars_0 5 rfl rfl)
theorem dX2_layBars_6 : decode cX2_layBars 6 = .ok (.istore_n 2, 1) := dk_61 (dk_at dksX2_layBars_0 6 rfl rfl)
theorem dX2_layBars_7 : decode cX2_layBars 7 = .ok (.iload_n 2, 1) := dk_28 (dk_at dksX2_layBars_0 7 rfl rfl)
theorem dX2_layBars_8 : decode cX2_layBars 8 = .ok (.bipush 60, 2) := dk_16 60 (dk_at dksX2_layBars_0 8 rfl rfl)
theorem dX2_layBars_10 : decode cX2_layBars 10 = .ok (.if_icmp .ge 65, 3) := dk_162 0 65 (dk_at dksX2_layBars_0 10 rfl rfl)
theorem dX2_layBars_13 : decode cX2_layBars 13 = .ok (.aload_n 0, 1) := dk_42 (dk_at dksX2_layBars_0 13 rfl rfl)
theorem dX2_layBars_14 : decode cX2_layBars 14 = .ok (.getfield 7, 3) := dk_180 0 7 (dk_at dksX2_layBars_0 14 rfl rfl)
theorem dX2_layBars_17 : decode cX2_layBars 17 = .ok (.bipush 9, 2) := dk_16 9 (dk_at dksX2_layBars_0 17 rfl rfl)
theorem dX2_layBars_19 : decode cX2_layBars 19 = .ok (.iload_n 1, 1) := dk_27 (dk_at dksX2_layBars_0 19 rfl rfl)
theorem dX2_layBars_20 : decode cX2_layBars 20 = .ok (.iload_n 2, 1) := dk_28 (dk_at dksX2_layBars_0 20 rfl rfl)
theorem dX2_layBars_21 : decode cX2_layBars 21 = .ok (.iadd, 1) := dk_96 (dk_at dksX2_layBars_0 21 rfl rfl)
theorem dX2_layBars_22 : decode cX2_layBars 22 = .ok (.bipush 30, 2) := dk_16 30 (dk_at dksX2_layBars_0 22 rfl rfl)
theorem dX2_layBars_24 : decode cX2_layBars 24 = .ok (.irem, 1) := dk_112 (dk_at dksX2_layBars_1 0 rfl rfl)
theorem dX2_layBars_25 : decode cX2_layBars 25 = .ok (.iadd, 1) := dk_96 (dk_at dksX2_layBars_1 1 rfl rfl)
theorem dX2_layBars_26 : decode cX2_layBars 26 = .ok (.iaload, 1) := dk_46 (dk_at dksX2_layBars_1 2 rfl rfl)
theorem dX2_layBars_27 : decode cX2_layBars 27 = .ok (.iconst 3, 1) := dk_6 (dk_at dksX2_layBars_1 3 rfl rfl)
theorem dX2_layBars_28 : decode cX2_layBars 28 = .ok (.if_icmp .eq 47, 3) := dk_159 0 47 (dk_at dksX2_layBars_1 4 rfl rfl)
theorem dX2_layBars_31 : decode cX2_layBars 31 = .ok (.iload_n 1, 1) := dk_27 (dk_at dksX2_layBars_1 7 rfl rfl)
theorem dX2_layBars_32 : decode cX2_layBars 32 = .ok (.iload_n 2, 1) := dk_28 (dk_at dksX2_layBars_1 8 rfl rfl)
theorem dX2_layBars_33 : decode cX2_layBars 33 = .ok (.iadd, 1) := dk_96 (dk_at dksX2_layBars_1 9 rfl rfl)
theorem dX2_layBars_34 : decode cX2_layBars 34 = .ok (.bipush 30, 2) := dk_16 30 (dk_at dksX2_layBars_1 10 rfl rfl)
theorem dX2_layBars_36 : decode cX2_layBars 36 = .ok (.irem, 1) := dk_112 (dk_at dksX2_layBars_1 12 rfl rfl)
theorem dX2_layBars_37 : decode cX2_layBars 37 = .ok (.istore_n 3, 1) := dk_62 (dk_at dksX2_layBars_1 13 rfl rfl)
theorem dX2_layBars_38 : decode cX2_layBars 38 = .ok (.aload_n 0, 1) := dk_42 (dk_at dksX2_layBars_1 14 rfl rfl)
theorem dX2_layBars_39 : decode cX2_layBars 39 = .ok (.iload_n 3, 1) := dk_29 (dk_at dksX2_layBars_1 15 rfl rfl)
theorem dX2_layBars_40 : decode cX2_layBars 40 = .ok (.invokevirtual 300, 3) := dk_182 1 44 (dk_at dksX2_layBars_1 16 rfl rfl)
theorem dX2_layBars_43 : decode cX2_layBars 43 = .ok (.ifCond .ne 6, 3) := dk_154 0 6 (dk_at dksX2_layBars_1 19 rfl rfl)
theorem dX2_layBars_46 : decode cX2_layBars 46 = .ok (.goto 23, 3) := dk_167 0 23 (dk_at dksX2_layBars_2 0 rfl rfl)
theorem dX2_layBars_49 : decode cX2_layBars 49 = .ok (.aload_n 0, 1) := dk_42 (dk_at dksX2_layBars_2 3 rfl rfl)
theorem dX2_layBars_50 : decode cX2_layBars 50 = .ok (.getfield 50, 3) := dk_180 0 50 (dk_at dksX2_layBars_2 4 rfl rfl)
theorem dX2_layBars_53 : decode cX2_layBars 53 = .ok (.aload_n 0, 1) := dk_42 (dk_at dksX2_layBars_2 7 rfl rfl)
theorem dX2_layBars_54 : decode cX2_layBars 54 = .ok (.getfield 373, 3) := dk_180 1 117 (dk_at dksX2_layBars_2 8 rfl rfl)
theorem dX2_layBars_57 : decode cX2_layBars 57 = .ok (.iload_n 3, 1) := dk_29 (dk_at dksX2_layBars_2 11 rfl rfl)
theorem dX2_layBars_58 : decode cX2_layBars 58 = .ok (.iastore, 1) := dk_79 (dk_at dksX2_layBars_2 12 rfl rfl)
theorem dX2_layBars_59 : decode cX2_layBars 59 = .ok (.aload_n 0, 1) := dk_42 (dk_at dksX2_layBars_2 13 rfl rfl)
theorem dX2_layBars_60 : decode cX2_layBars 60 = .ok (.dup, 1) := dk_89 (dk_at dksX2_layBars_2 14 rfl rfl)
theorem dX2_layBars_61 : decode cX2_layBars 61 = .ok (.getfield 373, 3) := dk_180 1 117 (dk_at dksX2_layBars_2 15 rfl rfl)
theorem dX2_layBars_64 : decode cX2_layBars 64 = .ok (.iconst 1, 1) := dk_4 (dk_at dksX2_layBars_2 18 rfl rfl)
theorem dX2_layBars_65 : decode cX2_layBars 65 = .ok (.iadd, 1) := dk_96 (dk_at dksX2_layBars_2 19 rfl rfl)
theorem dX2_layBars_66 : decode cX2_layBars 66 = .ok (.putfield 373, 3) := dk_181 1 117 (dk_at dksX2_layBars_2 20 rfl rfl)
theorem dX2_layBars_69 : decode cX2_layBars 69 = .ok (.iinc 2 1, 3) := dk_132 2 1 (dk_at dksX2_layBars_3 0 rfl rfl)
theorem dX2_layBars_72 : decode cX2_layBars 72 = .ok (.goto (-65), 3) := dk_167 255 191 (dk_at dksX2_layBars_3 3 rfl rfl)
theorem dX2_layBars_75 : decode cX2_layBars 75 = .ok (.return_, 1) := dk_177 (dk_at dksX2_layBars_3 6 rfl rfl)
abbrev cX2_caughtAt : ByteArray := prog_20_method_99_code
def yX2_caughtAt : MethodName := ⟨RX2, "caughtAt", "(II)I"⟩
def dkwX2_caughtAt_0 : List UInt8 := [42, 42, 180, 0, 7, 5, 46, 27, 42, 180, 0, 50, 28, 4, 100, 46, 28, 182, 1, 47, 172]
abbrev dktX2_caughtAt_0 : List UInt8 := dkwX2_caughtAt_0 ++ []
theorem dksX2_caughtAt_0 : cX2_caughtAt.data.toList.drop 0 = dktX2_caughtAt_0 := by decide +kernel
theorem dX2_caughtAt_0 : decode cX2_caughtAt 0 = .ok (.aload_n 0, 1) := dk_42 (dk_at dksX2_caughtAt_0 0 rfl rfl)
theorem dX2_caughtAt_1 : decode cX2_caughtAt 1 = .ok (.aload_n 0, 1) := dk_42 (dk_at dksX2_caughtAt_0 1 rfl rfl)
theorem dX2_caughtAt_2 : decode cX2_caughtAt 2 = .ok (.getfield 7, 3) := dk_180 0 7 (dk_at dksX2_caughtAt_0 2 rfl rfl)
theorem dX2_caughtAt_5 : decode cX2_caughtAt 5 = .ok (.iconst 2, 1) := dk_5 (dk_at dksX2_caughtAt_0 5 rfl rfl)
theorem dX2_caughtAt_6 : decode cX2_caughtAt 6 = .ok (.iaload, 1) := dk_46 (dk_at dksX2_caughtAt_0 6 rfl rfl)
theorem dX2_caughtAt_7 : decode cX2_caughtAt 7 = .ok (.iload_n 1, 1) := dk_27 (dk_at dksX2_caughtAt_0 7 rfl rfl)
theorem dX2_caughtAt_8 : decode cX2_caughtAt 8 = .ok (.aload_n 0, 1) := dk_42 (dk_at dksX2_caughtAt_0 8 rfl rfl)
theorem dX2_caughtAt_9 : decode cX2_caughtAt 9 = .ok (.getfield 50, 3) := dk_180 0 50 (dk_at dksX2_caughtAt_0 9 rfl rfl)
theorem dX2_caughtAt_12 : decode cX2_caughtAt 12 = .ok (.iload_n 2, 1) := dk_28 (dk_at dksX2_caughtAt_0 12 rfl rfl)
theorem dX2_caughtAt_13 : decode cX2_caughtAt 13 = .ok (.iconst 1, 1) := dk_4 (dk_at dksX2_caughtAt_0 13 rfl rfl)
theorem dX2_caughtAt_14 : decode cX2_caughtAt 14 = .ok (.isub, 1) := dk_100 (dk_at dksX2_caughtAt_0 14 rfl rfl)
theorem dX2_caughtAt_15 : decode cX2_caughtAt 15 = .ok (.iaload, 1) := dk_46 (dk_at dksX2_caughtAt_0 15 rfl rfl)
theorem dX2_caughtAt_16 : decode cX2_caughtAt 16 = .ok (.iload_n 2, 1) := dk_28 (dk_at dksX2_caughtAt_0 16 rfl rfl)
theorem dX2_caughtAt_17 : decode cX2_caughtAt 17 = .ok (.invokevirtual 303, 3) := dk_182 1 47 (dk_at dksX2_caughtAt_0 17 rfl rfl)
theorem dX2_caughtAt_20 : decode cX2_caughtAt 20 = .ok (.ireturn, 1) := dk_172 (dk_at dksX2_caughtAt_0 20 rfl rfl)
abbrev cX2_tens : ByteArray := prog_20_method_101_code
def yX2_tens : MethodName := ⟨RX2, "tens", "(I)J"⟩
def dkwX2_tens_0 : List UInt8 := [10, 64, 3, 62, 29, 26, 162, 0, 15, 31, 20, 1, 126, 105, 64, 132, 3, 1, 167, 255, 242, 31, 173]
abbrev dktX2_tens_0 : List UInt8 := dkwX2_tens_0 ++ []
theorem dksX2_tens_0 : cX2_tens.data.toList.drop 0 = dktX2_tens_0 := by decide +kernel
theorem dX2_tens_0 : decode cX2_tens 0 = .ok (.lconst 1, 1) := dk_10 (dk_at dksX2_tens_0 0 rfl rfl)
theorem dX2_tens_1 : decode cX2_tens 1 = .ok (.lstore_n 1, 1) := dk_64 (dk_at dksX2_tens_0 1 rfl rfl)
theorem dX2_tens_2 : decode cX2_tens 2 = .ok (.iconst 0, 1) := dk_3 (dk_at dksX2_tens_0 2 rfl rfl)
theorem dX2_tens_3 : decode cX2_tens 3 = .ok (.istore_n 3, 1) := dk_62 (dk_at dksX2_tens_0 3 rfl rfl)
theorem dX2_tens_4 : decode cX2_tens 4 = .ok (.iload_n 3, 1) := dk_29 (dk_at dksX2_tens_0 4 rfl rfl)
theorem dX2_tens_5 : decode cX2_tens 5 = .ok (.iload_n 0, 1) := dk_26 (dk_at dksX2_tens_0 5 rfl rfl)
theorem dX2_tens_6 : decode cX2_tens 6 = .ok (.if_icmp .ge 15, 3) := dk_162 0 15 (dk_at dksX2_tens_0 6 rfl rfl)
theorem dX2_tens_9 : decode cX2_tens 9 = .ok (.lload_n 1, 1) := dk_31 (dk_at dksX2_tens_0 9 rfl rfl)
theorem dX2_tens_10 : decode cX2_tens 10 = .ok (.ldc2_w 382, 3) := dk_20 1 126 (dk_at dksX2_tens_0 10 rfl rfl)
theorem dX2_tens_13 : decode cX2_tens 13 = .ok (.lmul, 1) := dk_105 (dk_at dksX2_tens_0 13 rfl rfl)
theorem dX2_tens_14 : decode cX2_tens 14 = .ok (.lstore_n 1, 1) := dk_64 (dk_at dksX2_tens_0 14 rfl rfl)
theorem dX2_tens_15 : decode cX2_tens 15 = .ok (.iinc 3 1, 3) := dk_132 3 1 (dk_at dksX2_tens_0 15 rfl rfl)
theorem dX2_tens_18 : decode cX2_tens 18 = .ok (.goto (-14), 3) := dk_167 255 242 (dk_at dksX2_tens_0 18 rfl rfl)
theorem dX2_tens_21 : decode cX2_tens 21 = .ok (.lload_n 1, 1) := dk_31 (dk_at dksX2_tens_0 21 rfl rfl)
theorem dX2_tens_22 : decode cX2_tens 22 = .ok (.lreturn, 1) := dk_173 (dk_at dksX2_tens_0 22 rfl rfl)
abbrev cX2_part : ByteArray := prog_20_method_103_code
def yX2_part : MethodName := ⟨RX2, "part", "(JJZ)J"⟩
def dkwX2_part_0 : List UInt8 := [21, 4, 153, 0, 7, 32, 167, 0, 4, 30, 30, 32, 184, 1, 128, 109, 173]
abbrev dktX2_part_0 : List UInt8 := dkwX2_part_0 ++ []
theorem dksX2_part_0 : cX2_part.data.toList.drop 0 = dktX2_part_0 := by decide +kernel
theorem dX2_part_0 : decode cX2_part 0 = .ok (.iload 4, 2) := dk_21 4 (dk_at dksX2_part_0 0 rfl rfl)
theorem dX2_part_2 : decode cX2_part 2 = .ok (.ifCond .eq 7, 3) := dk_153 0 7 (dk_at dksX2_part_0 2 rfl rfl)
theorem dX2_part_5 : decode cX2_part 5 = .ok (.lload_n 2, 1) := dk_32 (dk_at dksX2_part_0 5 rfl rfl)
theorem dX2_part_6 : decode cX2_part 6 = .ok (.goto 4, 3) := dk_167 0 4 (dk_at dksX2_part_0 6 rfl rfl)
theorem dX2_part_9 : decode cX2_part 9 = .ok (.lload_n 0, 1) := dk_30 (dk_at dksX2_part_0 9 rfl rfl)
theorem dX2_part_10 : decode cX2_part 10 = .ok (.lload_n 0, 1) := dk_30 (dk_at dksX2_part_0 10 rfl rfl)
theorem dX2_part_11 : decode cX2_part 11 = .ok (.lload_n 2, 1) := dk_32 (dk_at dksX2_part_0 11 rfl rfl)
theorem dX2_part_12 : decode cX2_part 12 = .ok (.invokestatic 384, 3) := dk_184 1 128 (dk_at dksX2_part_0 12 rfl rfl)
theorem dX2_part_15 : decode cX2_part 15 = .ok (.ldiv, 1) := dk_109 (dk_at dksX2_part_0 15 rfl rfl)
theorem dX2_part_16 : decode cX2_part 16 = .ok (.lreturn, 1) := dk_173 (dk_at dksX2_part_0 16 rfl rfl)
abbrev cX2_divisor : ByteArray := prog_20_method_102_code
def yX2_divisor : MethodName := ⟨RX2, "divisor", "(JJ)J"⟩
def dkwX2_divisor_1 : List UInt8 := [22, 8, 55, 6, 167, 255, 234, 22, 4, 173]
abbrev dktX2_divisor_1 : List UInt8 := dkwX2_divisor_1 ++ []
def dkwX2_divisor_0 : List UInt8 := [30, 55, 4, 32, 55, 6, 22, 6, 9, 148, 153, 0, 21, 22, 4, 22, 6, 113, 55, 8, 22, 6, 55, 4]
abbrev dktX2_divisor_0 : List UInt8 := dkwX2_divisor_0 ++ dktX2_divisor_1
theorem dksX2_divisor_0 : cX2_divisor.data.toList.drop 0 = dktX2_divisor_0 := by decide +kernel
theorem dksX2_divisor_1 : cX2_divisor.data.toList.drop 24 = dktX2_divisor_1 := dk_seg dksX2_divisor_0 24 rfl rfl
theorem dX2_divisor_0 : decode cX2_divisor 0 = .ok (.lload_n 0, 1) := dk_30 (dk_at dksX2_divisor_0 0 rfl rfl)
theorem dX2_divisor_1 : decode cX2_divisor 1 = .ok (.lstore 4, 2) := dk_55 4 (dk_at dksX2_divisor_0 1 rfl rfl)
theorem dX2_divisor_3 : decode cX2_divisor 3 = .ok (.lload_n 2, 1) := dk_32 (dk_at dksX2_divisor_0 3 rfl rfl)
theorem dX2_divisor_4 : decode cX2_divisor 4 = .ok (.lstore 6, 2) := dk_55 6 (dk_at dksX2_divisor_0 4 rfl rfl)
theorem dX2_divisor_6 : decode cX2_divisor 6 = .ok (.lload 6, 2) := dk_22 6 (dk_at dksX2_divisor_0 6 rfl rfl)
theorem dX2_divisor_8 : decode cX2_divisor 8 = .ok (.lconst 0, 1) := dk_9 (dk_at dksX2_divisor_0 8 rfl rfl)
theorem dX2_divisor_9 : decode cX2_divisor 9 = .ok (.lcmp, 1) := dk_148 (dk_at dksX2_divisor_0 9 rfl rfl)
theorem dX2_divisor_10 : decode cX2_divisor 10 = .ok (.ifCond .eq 21, 3) := dk_153 0 21 (dk_at dksX2_divisor_0 10 rfl rfl)
theorem dX2_divisor_13 : decode cX2_divisor 13 = .ok (.lload 4, 2) := dk_22 4 (dk_at dksX2_divisor_0 13 rfl rfl)
theorem dX2_divisor_15 : decode cX2_divisor 15 = .ok (.lload 6, 2) := dk_22 6 (dk_at dksX2_divisor_0 15 rfl rfl)
theorem dX2_divisor_17 : decode cX2_divisor 17 = .ok (.lrem, 1) := dk_113 (dk_at dksX2_divisor_0 17 rfl rfl)
theorem dX2_divisor_18 : decode cX2_divisor 18 = .ok (.lstore 8, 2) := dk_55 8 (dk_at dksX2_divisor_0 18 rfl rfl)
theorem dX2_divisor_20 : decode cX2_divisor 20 = .ok (.lload 6, 2) := dk_22 6 (dk_at dksX2_divisor_0 20 rfl rfl)
theorem dX2_divisor_22 : decode cX2_divisor 22 = .ok (.lstore 4, 2) := dk_55 4 (dk_at dksX2_divisor_0 22 rfl rfl)
theorem dX2_divisor_24 : decode cX2_divisor 24 = .ok (.lload 8, 2) := dk_22 8 (dk_at dksX2_divisor_1 0 rfl rfl)
theorem dX2_divisor_26 : decode cX2_divisor 26 = .ok (.lstore 6, 2) := dk_55 6 (dk_at dksX2_divisor_1 2 rfl rfl)
theorem dX2_divisor_28 : decode cX2_divisor 28 = .ok (.goto (-22), 3) := dk_167 255 234 (dk_at dksX2_divisor_1 4 rfl rfl)
theorem dX2_divisor_31 : decode cX2_divisor 31 = .ok (.lload 4, 2) := dk_22 4 (dk_at dksX2_divisor_1 7 rfl rfl)
theorem dX2_divisor_33 : decode cX2_divisor 33 = .ok (.lreturn, 1) := dk_173 (dk_at dksX2_divisor_1 9 rfl rfl)
abbrev cX2_start : ByteArray := prog_20_method_106_code
def yX2_start : MethodName := ⟨RX2, "start", "(II)I"⟩
def dkwX2_start_2 : List UInt8 := [22, 4, 148, 157, 0, 6, 167, 0, 10, 22, 7, 55, 4, 21, 6, 62, 132, 6, 1, 167, 255, 218, 29, 172]
abbrev dktX2_start_2 : List UInt8 := dkwX2_start_2 ++ []
def dkwX2_start_1 : List UInt8 := [55, 4, 3, 54, 6, 21, 6, 16, 30, 162, 0, 37, 42, 27, 21, 6, 28, 182, 1, 134, 55, 7, 22, 7]
abbrev dktX2_start_1 : List UInt8 := dkwX2_start_1 ++ dktX2_start_2
def dkwX2_start_0 : List UInt8 := [42, 27, 182, 1, 66, 153, 0, 13, 28, 3, 16, 12, 184, 0, 69, 154, 0, 5, 2, 172, 2, 62, 9]
abbrev dktX2_start_0 : List UInt8 := dkwX2_start_0 ++ dktX2_start_1
theorem dksX2_start_0 : cX2_start.data.toList.drop 0 = dktX2_start_0 := by decide +kernel
theorem dksX2_start_1 : cX2_start.data.toList.drop 23 = dktX2_start_1 := dk_seg dksX2_start_0 23 rfl rfl
theorem dksX2_start_2 : cX2_start.data.toList.drop 47 = dktX2_start_2 := dk_seg dksX2_start_1 24 rfl rfl
theorem dX2_start_0 : decode cX2_start 0 = .ok (.aload_n 0, 1) := dk_42 (dk_at dksX2_start_0 0 rfl rfl)
theorem dX2_start_1 : decode cX2_start 1 = .ok (.iload_n 1, 1) := dk_27 (dk_at dksX2_start_0 1 rfl rfl)
theorem dX2_start_2 : decode cX2_start 2 = .ok (.invokevirtual 322, 3) := dk_182 1 66 (dk_at dksX2_start_0 2 rfl rfl)
theorem dX2_start_5 : decode cX2_start 5 = .ok (.ifCond .eq 13, 3) := dk_153 0 13 (dk_at dksX2_start_0 5 rfl rfl)
theorem dX2_start_8 : decode cX2_start 8 = .ok (.iload_n 2, 1) := dk_28 (dk_at dksX2_start_0 8 rfl rfl)
theorem dX2_start_9 : decode cX2_start 9 = .ok (.iconst 0, 1) := dk_3 (dk_at dksX2_start_0 9 rfl rfl)
theorem dX2_start_10 : decode cX2_start 10 = .ok (.bipush 12, 2) := dk_16 12 (dk_at dksX2_start_0 10 rfl rfl)
theorem dX2_start_12 : decode cX2_start 12 = .ok (.invokestatic 69, 3) := dk_184 0 69 (dk_at dksX2_start_0 12 rfl rfl)
theorem dX2_start_15 : decode cX2_start 15 = .ok (.ifCond .ne 5, 3) := dk_154 0 5 (dk_at dksX2_start_0 15 rfl rfl)
theorem dX2_start_18 : decode cX2_start 18 = .ok (.iconst (-1), 1) := dk_2 (dk_at dksX2_start_0 18 rfl rfl)
theorem dX2_start_19 : decode cX2_start 19 = .ok (.ireturn, 1) := dk_172 (dk_at dksX2_start_0 19 rfl rfl)
theorem dX2_start_20 : decode cX2_start 20 = .ok (.iconst (-1), 1) := dk_2 (dk_at dksX2_start_0 20 rfl rfl)
theorem dX2_start_21 : decode cX2_start 21 = .ok (.istore_n 3, 1) := dk_62 (dk_at dksX2_start_0 21 rfl rfl)
theorem dX2_start_22 : decode cX2_start 22 = .ok (.lconst 0, 1) := dk_9 (dk_at dksX2_start_0 22 rfl rfl)
theorem dX2_start_23 : decode cX2_start 23 = .ok (.lstore 4, 2) := dk_55 4 (dk_at dksX2_start_1 0 rfl rfl)
theorem dX2_start_25 : decode cX2_start 25 = .ok (.iconst 0, 1) := dk_3 (dk_at dksX2_start_1 2 rfl rfl)
theorem dX2_start_26 : decode cX2_start 26 = .ok (.istore 6, 2) := dk_54 6 (dk_at dksX2_start_1 3 rfl rfl)
theorem dX2_start_28 : decode cX2_start 28 = .ok (.iload 6, 2) := dk_21 6 (dk_at dksX2_start_1 5 rfl rfl)
theorem dX2_start_30 : decode cX2_start 30 = .ok (.bipush 30, 2) := dk_16 30 (dk_at dksX2_start_1 7 rfl rfl)
theorem dX2_start_32 : decode cX2_start 32 = .ok (.if_icmp .ge 37, 3) := dk_162 0 37 (dk_at dksX2_start_1 9 rfl rfl)
theorem dX2_start_35 : decode cX2_start 35 = .ok (.aload_n 0, 1) := dk_42 (dk_at dksX2_start_1 12 rfl rfl)
theorem dX2_start_36 : decode cX2_start 36 = .ok (.iload_n 1, 1) := dk_27 (dk_at dksX2_start_1 13 rfl rfl)
theorem dX2_start_37 : decode cX2_start 37 = .ok (.iload 6, 2) := dk_21 6 (dk_at dksX2_start_1 14 rfl rfl)
theorem dX2_start_39 : decode cX2_start 39 = .ok (.iload_n 2, 1) := dk_28 (dk_at dksX2_start_1 16 rfl rfl)
theorem dX2_start_40 : decode cX2_start 40 = .ok (.invokevirtual 390, 3) := dk_182 1 134 (dk_at dksX2_start_1 17 rfl rfl)
theorem dX2_start_43 : decode cX2_start 43 = .ok (.lstore 7, 2) := dk_55 7 (dk_at dksX2_start_1 20 rfl rfl)
theorem dX2_start_45 : decode cX2_start 45 = .ok (.lload 7, 2) := dk_22 7 (dk_at dksX2_start_1 22 rfl rfl)
theorem dX2_start_47 : decode cX2_start 47 = .ok (.lload 4, 2) := dk_22 4 (dk_at dksX2_start_2 0 rfl rfl)
theorem dX2_start_49 : decode cX2_start 49 = .ok (.lcmp, 1) := dk_148 (dk_at dksX2_start_2 2 rfl rfl)
theorem dX2_start_50 : decode cX2_start 50 = .ok (.ifCond .gt 6, 3) := dk_157 0 6 (dk_at dksX2_start_2 3 rfl rfl)
theorem dX2_start_53 : decode cX2_start 53 = .ok (.goto 10, 3) := dk_167 0 10 (dk_at dksX2_start_2 6 rfl rfl)
theorem dX2_start_56 : decode cX2_start 56 = .ok (.lload 7, 2) := dk_22 7 (dk_at dksX2_start_2 9 rfl rfl)
theorem dX2_start_58 : decode cX2_start 58 = .ok (.lstore 4, 2) := dk_55 4 (dk_at dksX2_start_2 11 rfl rfl)
theorem dX2_start_60 : decode cX2_start 60 = .ok (.iload 6, 2) := dk_21 6 (dk_at dksX2_start_2 13 rfl rfl)
theorem dX2_start_62 : decode cX2_start 62 = .ok (.istore_n 3, 1) := dk_62 (dk_at dksX2_start_2 15 rfl rfl)
theorem dX2_start_63 : decode cX2_start 63 = .ok (.iinc 6 1, 3) := dk_132 6 1 (dk_at dksX2_start_2 16 rfl rfl)
theorem dX2_start_66 : decode cX2_start 66 = .ok (.goto (-38), 3) := dk_167 255 218 (dk_at dksX2_start_2 19 rfl rfl)
theorem dX2_start_69 : decode cX2_start 69 = .ok (.iload_n 3, 1) := dk_29 (dk_at dksX2_start_2 22 rfl rfl)
theorem dX2_start_70 : decode cX2_start 70 = .ok (.ireturn, 1) := dk_172 (dk_at dksX2_start_2 23 rfl rfl)
abbrev cX2_mean : ByteArray := prog_20_method_107_code
def yX2_mean : MethodName := ⟨RX2, "mean", "(IIZ)J"⟩
def dkwX2_mean_3 : List UInt8 := [55, 5, 132, 7, 1, 167, 255, 220, 22, 5, 21, 4, 184, 1, 137, 29, 184, 1, 141, 173]
abbrev dktX2_mean_3 : List UInt8 := dkwX2_mean_3 ++ []
def dkwX2_mean_2 : List UInt8 := [22, 5, 21, 7, 133, 42, 27, 28, 21, 7, 182, 1, 134, 105, 21, 4, 21, 7, 100, 184, 1, 137, 105, 97]
abbrev dktX2_mean_2 : List UInt8 := dkwX2_mean_2 ++ dktX2_mean_3
def dkwX2_mean_1 : List UInt8 := [21, 4, 16, 12, 164, 0, 7, 20, 1, 145, 173, 9, 55, 5, 4, 54, 7, 21, 7, 21, 4, 163, 0, 35]
abbrev dktX2_mean_1 : List UInt8 := dkwX2_mean_1 ++ dktX2_mean_2
def dkwX2_mean_0 : List UInt8 := [42, 27, 28, 182, 1, 131, 154, 0, 7, 20, 1, 145, 173, 42, 28, 182, 1, 120, 42, 180, 1, 117, 54, 4]
abbrev dktX2_mean_0 : List UInt8 := dkwX2_mean_0 ++ dktX2_mean_1
theorem dksX2_mean_0 : cX2_mean.data.toList.drop 0 = dktX2_mean_0 := by decide +kernel
theorem dksX2_mean_1 : cX2_mean.data.toList.drop 24 = dktX2_mean_1 := dk_seg dksX2_mean_0 24 rfl rfl
theorem dksX2_mean_2 : cX2_mean.data.toList.drop 48 = dktX2_mean_2 := dk_seg dksX2_mean_1 24 rfl rfl
theorem dksX2_mean_3 : cX2_mean.data.toList.drop 72 = dktX2_mean_3 := dk_seg dksX2_mean_2 24 rfl rfl
theorem dX2_mean_0 : decode cX2_mean 0 = .ok (.aload_n 0, 1) := dk_42 (dk_at dksX2_mean_0 0 rfl rfl)
theorem dX2_mean_1 : decode cX2_mean 1 = .ok (.iload_n 1, 1) := dk_27 (dk_at dksX2_mean_0 1 rfl rfl)
theorem dX2_mean_2 : decode cX2_mean 2 = .ok (.iload_n 2, 1) := dk_28 (dk_at dksX2_mean_0 2 rfl rfl)
theorem dX2_mean_3 : decode cX2_mean 3 = .ok (.invokevirtual 387, 3) := dk_182 1 131 (dk_at dksX2_mean_0 3 rfl rfl)
theorem dX2_mean_6 : decode cX2_mean 6 = .ok (.ifCond .ne 7, 3) := dk_154 0 7 (dk_at dksX2_mean_0 6 rfl rfl)
theorem dX2_mean_9 : decode cX2_mean 9 = .ok (.ldc2_w 401, 3) := dk_20 1 145 (dk_at dksX2_mean_0 9 rfl rfl)
theorem dX2_mean_12 : decode cX2_mean 12 = .ok (.lreturn, 1) := dk_173 (dk_at dksX2_mean_0 12 rfl rfl)
theorem dX2_mean_13 : decode cX2_mean 13 = .ok (.aload_n 0, 1) := dk_42 (dk_at dksX2_mean_0 13 rfl rfl)
theorem dX2_mean_14 : decode cX2_mean 14 = .ok (.iload_n 2, 1) := dk_28 (dk_at dksX2_mean_0 14 rfl rfl)
theorem dX2_mean_15 : decode cX2_mean 15 = .ok (.invokevirtual 376, 3) := dk_182 1 120 (dk_at dksX2_mean_0 15 rfl rfl)
theorem dX2_mean_18 : decode cX2_mean 18 = .ok (.aload_n 0, 1) := dk_42 (dk_at dksX2_mean_0 18 rfl rfl)
theorem dX2_mean_19 : decode cX2_mean 19 = .ok (.getfield 373, 3) := dk_180 1 117 (dk_at dksX2_mean_0 19 rfl rfl)
theorem dX2_mean_22 : decode cX2_mean 22 = .ok (.istore 4, 2) := dk_54 4 (dk_at dksX2_mean_0 22 rfl rfl)
theorem dX2_mean_24 : decode cX2_mean 24 = .ok (.iload 4, 2) := dk_21 4 (dk_at dksX2_mean_1 0 rfl rfl)
theorem dX2_mean_26 : decode cX2_mean 26 = .ok (.bipush 12, 2) := dk_16 12 (dk_at dksX2_mean_1 2 rfl rfl)
theorem dX2_mean_28 : decode cX2_mean 28 = .ok (.if_icmp .le 7, 3) := dk_164 0 7 (dk_at dksX2_mean_1 4 rfl rfl)
theorem dX2_mean_31 : decode cX2_mean 31 = .ok (.ldc2_w 401, 3) := dk_20 1 145 (dk_at dksX2_mean_1 7 rfl rfl)
theorem dX2_mean_34 : decode cX2_mean 34 = .ok (.lreturn, 1) := dk_173 (dk_at dksX2_mean_1 10 rfl rfl)
theorem dX2_mean_35 : decode cX2_mean 35 = .ok (.lconst 0, 1) := dk_9 (dk_at dksX2_mean_1 11 rfl rfl)
theorem dX2_mean_36 : decode cX2_mean 36 = .ok (.lstore 5, 2) := dk_55 5 (dk_at dksX2_mean_1 12 rfl rfl)
theorem dX2_mean_38 : decode cX2_mean 38 = .ok (.iconst 1, 1) := dk_4 (dk_at dksX2_mean_1 14 rfl rfl)
theorem dX2_mean_39 : decode cX2_mean 39 = .ok (.istore 7, 2) := dk_54 7 (dk_at dksX2_mean_1 15 rfl rfl)
theorem dX2_mean_41 : decode cX2_mean 41 = .ok (.iload 7, 2) := dk_21 7 (dk_at dksX2_mean_1 17 rfl rfl)
theorem dX2_mean_43 : decode cX2_mean 43 = .ok (.iload 4, 2) := dk_21 4 (dk_at dksX2_mean_1 19 rfl rfl)
theorem dX2_mean_45 : decode cX2_mean 45 = .ok (.if_icmp .gt 35, 3) := dk_163 0 35 (dk_at dksX2_mean_1 21 rfl rfl)
theorem dX2_mean_48 : decode cX2_mean 48 = .ok (.lload 5, 2) := dk_22 5 (dk_at dksX2_mean_2 0 rfl rfl)
theorem dX2_mean_50 : decode cX2_mean 50 = .ok (.iload 7, 2) := dk_21 7 (dk_at dksX2_mean_2 2 rfl rfl)
theorem dX2_mean_52 : decode cX2_mean 52 = .ok (.i2l, 1) := dk_133 (dk_at dksX2_mean_2 4 rfl rfl)
theorem dX2_mean_53 : decode cX2_mean 53 = .ok (.aload_n 0, 1) := dk_42 (dk_at dksX2_mean_2 5 rfl rfl)
theorem dX2_mean_54 : decode cX2_mean 54 = .ok (.iload_n 1, 1) := dk_27 (dk_at dksX2_mean_2 6 rfl rfl)
theorem dX2_mean_55 : decode cX2_mean 55 = .ok (.iload_n 2, 1) := dk_28 (dk_at dksX2_mean_2 7 rfl rfl)
theorem dX2_mean_56 : decode cX2_mean 56 = .ok (.iload 7, 2) := dk_21 7 (dk_at dksX2_mean_2 8 rfl rfl)
theorem dX2_mean_58 : decode cX2_mean 58 = .ok (.invokevirtual 390, 3) := dk_182 1 134 (dk_at dksX2_mean_2 10 rfl rfl)
theorem dX2_mean_61 : decode cX2_mean 61 = .ok (.lmul, 1) := dk_105 (dk_at dksX2_mean_2 13 rfl rfl)
theorem dX2_mean_62 : decode cX2_mean 62 = .ok (.iload 4, 2) := dk_21 4 (dk_at dksX2_mean_2 14 rfl rfl)
theorem dX2_mean_64 : decode cX2_mean 64 = .ok (.iload 7, 2) := dk_21 7 (dk_at dksX2_mean_2 16 rfl rfl)
theorem dX2_mean_66 : decode cX2_mean 66 = .ok (.isub, 1) := dk_100 (dk_at dksX2_mean_2 18 rfl rfl)
theorem dX2_mean_67 : decode cX2_mean 67 = .ok (.invokestatic 393, 3) := dk_184 1 137 (dk_at dksX2_mean_2 19 rfl rfl)
theorem dX2_mean_70 : decode cX2_mean 70 = .ok (.lmul, 1) := dk_105 (dk_at dksX2_mean_2 22 rfl rfl)
theorem dX2_mean_71 : decode cX2_mean 71 = .ok (.ladd, 1) := dk_97 (dk_at dksX2_mean_2 23 rfl rfl)
theorem dX2_mean_72 : decode cX2_mean 72 = .ok (.lstore 5, 2) := dk_55 5 (dk_at dksX2_mean_3 0 rfl rfl)
theorem dX2_mean_74 : decode cX2_mean 74 = .ok (.iinc 7 1, 3) := dk_132 7 1 (dk_at dksX2_mean_3 2 rfl rfl)
theorem dX2_mean_77 : decode cX2_mean 77 = .ok (.goto (-36), 3) := dk_167 255 220 (dk_at dksX2_mean_3 5 rfl rfl)
theorem dX2_mean_80 : decode cX2_mean 80 = .ok (.lload 5, 2) := dk_22 5 (dk_at dksX2_mean_3 8 rfl rfl)
theorem dX2_mean_82 : decode cX2_mean 82 = .ok (.iload 4, 2) := dk_21 4 (dk_at dksX2_mean_3 10 rfl rfl)
theorem dX2_mean_84 : decode cX2_mean 84 = .ok (.invokestatic 393, 3) := dk_184 1 137 (dk_at dksX2_mean_3 12 rfl rfl)
theorem dX2_mean_87 : decode cX2_mean 87 = .ok (.iload_n 3, 1) := dk_29 (dk_at dksX2_mean_3 15 rfl rfl)
theorem dX2_mean_88 : decode cX2_mean 88 = .ok (.invokestatic 397, 3) := dk_184 1 141 (dk_at dksX2_mean_3 16 rfl rfl)
theorem dX2_mean_91 : decode cX2_mean 91 = .ok (.lreturn, 1) := dk_173 (dk_at dksX2_mean_3 19 rfl rfl)
abbrev cX2_which : ByteArray := prog_20_method_108_code
def yX2_which : MethodName := ⟨RX2, "which", "(III)I"⟩
def dkwX2_which_4 : List UInt8 := [167, 0, 11, 22, 8, 55, 5, 21, 7, 54, 4, 132, 7, 1, 167, 255, 184, 21, 4, 172]
abbrev dktX2_which_4 : List UInt8 := dkwX2_which_4 ++ []
def dkwX2_which_3 : List UInt8 := [182, 1, 134, 55, 8, 42, 180, 0, 7, 16, 9, 21, 7, 96, 4, 79, 22, 8, 22, 5, 148, 157, 0, 6]
abbrev dktX2_which_3 : List UInt8 := dkwX2_which_3 ++ dktX2_which_4
def dkwX2_which_2 : List UInt8 := [182, 1, 44, 154, 0, 6, 167, 0, 53, 42, 180, 0, 7, 16, 9, 21, 7, 96, 3, 79, 42, 27, 28, 29]
abbrev dktX2_which_2 : List UInt8 := dkwX2_which_2 ++ dktX2_which_3
def dkwX2_which_1 : List UInt8 := [42, 27, 28, 29, 182, 1, 134, 55, 5, 3, 54, 7, 21, 7, 16, 30, 162, 0, 71, 42, 21, 7]
abbrev dktX2_which_1 : List UInt8 := dkwX2_which_1 ++ dktX2_which_2
def dkwX2_which_0 : List UInt8 := [42, 27, 28, 182, 1, 131, 153, 0, 13, 29, 3, 16, 12, 184, 0, 69, 154, 0, 5, 2, 172, 2, 54, 4]
abbrev dktX2_which_0 : List UInt8 := dkwX2_which_0 ++ dktX2_which_1
theorem dksX2_which_0 : cX2_which.data.toList.drop 0 = dktX2_which_0 := by decide +kernel
theorem dksX2_which_1 : cX2_which.data.toList.drop 24 = dktX2_which_1 := dk_seg dksX2_which_0 24 rfl rfl
theorem dksX2_which_2 : cX2_which.data.toList.drop 46 = dktX2_which_2 := dk_seg dksX2_which_1 22 rfl rfl
theorem dksX2_which_3 : cX2_which.data.toList.drop 70 = dktX2_which_3 := dk_seg dksX2_which_2 24 rfl rfl
theorem dksX2_which_4 : cX2_which.data.toList.drop 94 = dktX2_which_4 := dk_seg dksX2_which_3 24 rfl rfl
theorem dX2_which_0 : decode cX2_which 0 = .ok (.aload_n 0, 1) := dk_42 (dk_at dksX2_which_0 0 rfl rfl)
theorem dX2_which_1 : decode cX2_which 1 = .ok (.iload_n 1, 1) := dk_27 (dk_at dksX2_which_0 1 rfl rfl)
theorem dX2_which_2 : decode cX2_which 2 = .ok (.iload_n 2, 1) := dk_28 (dk_at dksX2_which_0 2 rfl rfl)
theorem dX2_which_3 : decode cX2_which 3 = .ok (.invokevirtual 387, 3) := dk_182 1 131 (dk_at dksX2_which_0 3 rfl rfl)
theorem dX2_which_6 : decode cX2_which 6 = .ok (.ifCond .eq 13, 3) := dk_153 0 13 (dk_at dksX2_which_0 6 rfl rfl)
theorem dX2_which_9 : decode cX2_which 9 = .ok (.iload_n 3, 1) := dk_29 (dk_at dksX2_which_0 9 rfl rfl)
theorem dX2_which_10 : decode cX2_which 10 = .ok (.iconst 0, 1) := dk_3 (dk_at dksX2_which_0 10 rfl rfl)
theorem dX2_which_11 : decode cX2_which 11 = .ok (.bipush 12, 2) := dk_16 12 (dk_at dksX2_which_0 11 rfl rfl)
theorem dX2_which_13 : decode cX2_which 13 = .ok (.invokestatic 69, 3) := dk_184 0 69 (dk_at dksX2_which_0 13 rfl rfl)
theorem dX2_which_16 : decode cX2_which 16 = .ok (.ifCond .ne 5, 3) := dk_154 0 5 (dk_at dksX2_which_0 16 rfl rfl)
theorem dX2_which_19 : decode cX2_which 19 = .ok (.iconst (-1), 1) := dk_2 (dk_at dksX2_which_0 19 rfl rfl)
theorem dX2_which_20 : decode cX2_which 20 = .ok (.ireturn, 1) := dk_172 (dk_at dksX2_which_0 20 rfl rfl)
theorem dX2_which_21 : decode cX2_which 21 = .ok (.iconst (-1), 1) := dk_2 (dk_at dksX2_which_0 21 rfl rfl)
theorem dX2_which_22 : decode cX2_which 22 = .ok (.istore 4, 2) := dk_54 4 (dk_at dksX2_which_0 22 rfl rfl)
theorem dX2_which_24 : decode cX2_which 24 = .ok (.aload_n 0, 1) := dk_42 (dk_at dksX2_which_1 0 rfl rfl)
theorem dX2_which_25 : decode cX2_which 25 = .ok (.iload_n 1, 1) := dk_27 (dk_at dksX2_which_1 1 rfl rfl)
theorem dX2_which_26 : decode cX2_which 26 = .ok (.iload_n 2, 1) := dk_28 (dk_at dksX2_which_1 2 rfl rfl)
theorem dX2_which_27 : decode cX2_which 27 = .ok (.iload_n 3, 1) := dk_29 (dk_at dksX2_which_1 3 rfl rfl)
theorem dX2_which_28 : decode cX2_which 28 = .ok (.invokevirtual 390, 3) := dk_182 1 134 (dk_at dksX2_which_1 4 rfl rfl)
theorem dX2_which_31 : decode cX2_which 31 = .ok (.lstore 5, 2) := dk_55 5 (dk_at dksX2_which_1 7 rfl rfl)
theorem dX2_which_33 : decode cX2_which 33 = .ok (.iconst 0, 1) := dk_3 (dk_at dksX2_which_1 9 rfl rfl)
theorem dX2_which_34 : decode cX2_which 34 = .ok (.istore 7, 2) := dk_54 7 (dk_at dksX2_which_1 10 rfl rfl)
theorem dX2_which_36 : decode cX2_which 36 = .ok (.iload 7, 2) := dk_21 7 (dk_at dksX2_which_1 12 rfl rfl)
theorem dX2_which_38 : decode cX2_which 38 = .ok (.bipush 30, 2) := dk_16 30 (dk_at dksX2_which_1 14 rfl rfl)
theorem dX2_which_40 : decode cX2_which 40 = .ok (.if_icmp .ge 71, 3) := dk_162 0 71 (dk_at dksX2_which_1 16 rfl rfl)
theorem dX2_which_43 : decode cX2_which 43 = .ok (.aload_n 0, 1) := dk_42 (dk_at dksX2_which_1 19 rfl rfl)
theorem dX2_which_44 : decode cX2_which 44 = .ok (.iload 7, 2) := dk_21 7 (dk_at dksX2_which_1 20 rfl rfl)
theorem dX2_which_46 : decode cX2_which 46 = .ok (.invokevirtual 300, 3) := dk_182 1 44 (dk_at dksX2_which_2 0 rfl rfl)
theorem dX2_which_49 : decode cX2_which 49 = .ok (.ifCond .ne 6, 3) := dk_154 0 6 (dk_at dksX2_which_2 3 rfl rfl)
theorem dX2_which_52 : decode cX2_which 52 = .ok (.goto 53, 3) := dk_167 0 53 (dk_at dksX2_which_2 6 rfl rfl)
theorem dX2_which_55 : decode cX2_which 55 = .ok (.aload_n 0, 1) := dk_42 (dk_at dksX2_which_2 9 rfl rfl)
theorem dX2_which_56 : decode cX2_which 56 = .ok (.getfield 7, 3) := dk_180 0 7 (dk_at dksX2_which_2 10 rfl rfl)
theorem dX2_which_59 : decode cX2_which 59 = .ok (.bipush 9, 2) := dk_16 9 (dk_at dksX2_which_2 13 rfl rfl)
theorem dX2_which_61 : decode cX2_which 61 = .ok (.iload 7, 2) := dk_21 7 (dk_at dksX2_which_2 15 rfl rfl)
theorem dX2_which_63 : decode cX2_which 63 = .ok (.iadd, 1) := dk_96 (dk_at dksX2_which_2 17 rfl rfl)
theorem dX2_which_64 : decode cX2_which 64 = .ok (.iconst 0, 1) := dk_3 (dk_at dksX2_which_2 18 rfl rfl)
theorem dX2_which_65 : decode cX2_which 65 = .ok (.iastore, 1) := dk_79 (dk_at dksX2_which_2 19 rfl rfl)
theorem dX2_which_66 : decode cX2_which 66 = .ok (.aload_n 0, 1) := dk_42 (dk_at dksX2_which_2 20 rfl rfl)
theorem dX2_which_67 : decode cX2_which 67 = .ok (.iload_n 1, 1) := dk_27 (dk_at dksX2_which_2 21 rfl rfl)
theorem dX2_which_68 : decode cX2_which 68 = .ok (.iload_n 2, 1) := dk_28 (dk_at dksX2_which_2 22 rfl rfl)
theorem dX2_which_69 : decode cX2_which 69 = .ok (.iload_n 3, 1) := dk_29 (dk_at dksX2_which_2 23 rfl rfl)
theorem dX2_which_70 : decode cX2_which 70 = .ok (.invokevirtual 390, 3) := dk_182 1 134 (dk_at dksX2_which_3 0 rfl rfl)
theorem dX2_which_73 : decode cX2_which 73 = .ok (.lstore 8, 2) := dk_55 8 (dk_at dksX2_which_3 3 rfl rfl)
theorem dX2_which_75 : decode cX2_which 75 = .ok (.aload_n 0, 1) := dk_42 (dk_at dksX2_which_3 5 rfl rfl)
theorem dX2_which_76 : decode cX2_which 76 = .ok (.getfield 7, 3) := dk_180 0 7 (dk_at dksX2_which_3 6 rfl rfl)
theorem dX2_which_79 : decode cX2_which 79 = .ok (.bipush 9, 2) := dk_16 9 (dk_at dksX2_which_3 9 rfl rfl)
theorem dX2_which_81 : decode cX2_which 81 = .ok (.iload 7, 2) := dk_21 7 (dk_at dksX2_which_3 11 rfl rfl)
theorem dX2_which_83 : decode cX2_which 83 = .ok (.iadd, 1) := dk_96 (dk_at dksX2_which_3 13 rfl rfl)
theorem dX2_which_84 : decode cX2_which 84 = .ok (.iconst 1, 1) := dk_4 (dk_at dksX2_which_3 14 rfl rfl)
theorem dX2_which_85 : decode cX2_which 85 = .ok (.iastore, 1) := dk_79 (dk_at dksX2_which_3 15 rfl rfl)
theorem dX2_which_86 : decode cX2_which 86 = .ok (.lload 8, 2) := dk_22 8 (dk_at dksX2_which_3 16 rfl rfl)
theorem dX2_which_88 : decode cX2_which 88 = .ok (.lload 5, 2) := dk_22 5 (dk_at dksX2_which_3 18 rfl rfl)
theorem dX2_which_90 : decode cX2_which 90 = .ok (.lcmp, 1) := dk_148 (dk_at dksX2_which_3 20 rfl rfl)
theorem dX2_which_91 : decode cX2_which 91 = .ok (.ifCond .gt 6, 3) := dk_157 0 6 (dk_at dksX2_which_3 21 rfl rfl)
theorem dX2_which_94 : decode cX2_which 94 = .ok (.goto 11, 3) := dk_167 0 11 (dk_at dksX2_which_4 0 rfl rfl)
theorem dX2_which_97 : decode cX2_which 97 = .ok (.lload 8, 2) := dk_22 8 (dk_at dksX2_which_4 3 rfl rfl)
theorem dX2_which_99 : decode cX2_which 99 = .ok (.lstore 5, 2) := dk_55 5 (dk_at dksX2_which_4 5 rfl rfl)
theorem dX2_which_101 : decode cX2_which 101 = .ok (.iload 7, 2) := dk_21 7 (dk_at dksX2_which_4 7 rfl rfl)
theorem dX2_which_103 : decode cX2_which 103 = .ok (.istore 4, 2) := dk_54 4 (dk_at dksX2_which_4 9 rfl rfl)
theorem dX2_which_105 : decode cX2_which 105 = .ok (.iinc 7 1, 3) := dk_132 7 1 (dk_at dksX2_which_4 11 rfl rfl)
theorem dX2_which_108 : decode cX2_which 108 = .ok (.goto (-72), 3) := dk_167 255 184 (dk_at dksX2_which_4 14 rfl rfl)
theorem dX2_which_111 : decode cX2_which 111 = .ok (.iload 4, 2) := dk_21 4 (dk_at dksX2_which_4 17 rfl rfl)
theorem dX2_which_113 : decode cX2_which 113 = .ok (.ireturn, 1) := dk_172 (dk_at dksX2_which_4 19 rfl rfl)
abbrev cX2_nth : ByteArray := prog_20_method_109_code
def yX2_nth : MethodName := ⟨RX2, "nth", "(II)I"⟩
def dkwX2_nth_1 : List UInt8 := [28, 42, 180, 1, 117, 163, 0, 14, 42, 180, 0, 50, 28, 4, 100, 46, 167, 0, 4, 2, 172]
abbrev dktX2_nth_1 : List UInt8 := dkwX2_nth_1 ++ []
def dkwX2_nth_0 : List UInt8 := [27, 184, 0, 73, 153, 0, 13, 28, 4, 16, 60, 184, 0, 69, 154, 0, 5, 2, 172, 42, 27, 182, 1, 120]
abbrev dktX2_nth_0 : List UInt8 := dkwX2_nth_0 ++ dktX2_nth_1
theorem dksX2_nth_0 : cX2_nth.data.toList.drop 0 = dktX2_nth_0 := by decide +kernel
theorem dksX2_nth_1 : cX2_nth.data.toList.drop 24 = dktX2_nth_1 := dk_seg dksX2_nth_0 24 rfl rfl
theorem dX2_nth_0 : decode cX2_nth 0 = .ok (.iload_n 1, 1) := dk_27 (dk_at dksX2_nth_0 0 rfl rfl)
theorem dX2_nth_1 : decode cX2_nth 1 = .ok (.invokestatic 73, 3) := dk_184 0 73 (dk_at dksX2_nth_0 1 rfl rfl)
theorem dX2_nth_4 : decode cX2_nth 4 = .ok (.ifCond .eq 13, 3) := dk_153 0 13 (dk_at dksX2_nth_0 4 rfl rfl)
theorem dX2_nth_7 : decode cX2_nth 7 = .ok (.iload_n 2, 1) := dk_28 (dk_at dksX2_nth_0 7 rfl rfl)
theorem dX2_nth_8 : decode cX2_nth 8 = .ok (.iconst 1, 1) := dk_4 (dk_at dksX2_nth_0 8 rfl rfl)
theorem dX2_nth_9 : decode cX2_nth 9 = .ok (.bipush 60, 2) := dk_16 60 (dk_at dksX2_nth_0 9 rfl rfl)
theorem dX2_nth_11 : decode cX2_nth 11 = .ok (.invokestatic 69, 3) := dk_184 0 69 (dk_at dksX2_nth_0 11 rfl rfl)
theorem dX2_nth_14 : decode cX2_nth 14 = .ok (.ifCond .ne 5, 3) := dk_154 0 5 (dk_at dksX2_nth_0 14 rfl rfl)
theorem dX2_nth_17 : decode cX2_nth 17 = .ok (.iconst (-1), 1) := dk_2 (dk_at dksX2_nth_0 17 rfl rfl)
theorem dX2_nth_18 : decode cX2_nth 18 = .ok (.ireturn, 1) := dk_172 (dk_at dksX2_nth_0 18 rfl rfl)
theorem dX2_nth_19 : decode cX2_nth 19 = .ok (.aload_n 0, 1) := dk_42 (dk_at dksX2_nth_0 19 rfl rfl)
theorem dX2_nth_20 : decode cX2_nth 20 = .ok (.iload_n 1, 1) := dk_27 (dk_at dksX2_nth_0 20 rfl rfl)
theorem dX2_nth_21 : decode cX2_nth 21 = .ok (.invokevirtual 376, 3) := dk_182 1 120 (dk_at dksX2_nth_0 21 rfl rfl)
theorem dX2_nth_24 : decode cX2_nth 24 = .ok (.iload_n 2, 1) := dk_28 (dk_at dksX2_nth_1 0 rfl rfl)
theorem dX2_nth_25 : decode cX2_nth 25 = .ok (.aload_n 0, 1) := dk_42 (dk_at dksX2_nth_1 1 rfl rfl)
theorem dX2_nth_26 : decode cX2_nth 26 = .ok (.getfield 373, 3) := dk_180 1 117 (dk_at dksX2_nth_1 2 rfl rfl)
theorem dX2_nth_29 : decode cX2_nth 29 = .ok (.if_icmp .gt 14, 3) := dk_163 0 14 (dk_at dksX2_nth_1 5 rfl rfl)
theorem dX2_nth_32 : decode cX2_nth 32 = .ok (.aload_n 0, 1) := dk_42 (dk_at dksX2_nth_1 8 rfl rfl)
theorem dX2_nth_33 : decode cX2_nth 33 = .ok (.getfield 50, 3) := dk_180 0 50 (dk_at dksX2_nth_1 9 rfl rfl)
theorem dX2_nth_36 : decode cX2_nth 36 = .ok (.iload_n 2, 1) := dk_28 (dk_at dksX2_nth_1 12 rfl rfl)
theorem dX2_nth_37 : decode cX2_nth 37 = .ok (.iconst 1, 1) := dk_4 (dk_at dksX2_nth_1 13 rfl rfl)
theorem dX2_nth_38 : decode cX2_nth 38 = .ok (.isub, 1) := dk_100 (dk_at dksX2_nth_1 14 rfl rfl)
theorem dX2_nth_39 : decode cX2_nth 39 = .ok (.iaload, 1) := dk_46 (dk_at dksX2_nth_1 15 rfl rfl)
theorem dX2_nth_40 : decode cX2_nth 40 = .ok (.goto 4, 3) := dk_167 0 4 (dk_at dksX2_nth_1 16 rfl rfl)
theorem dX2_nth_43 : decode cX2_nth 43 = .ok (.iconst (-1), 1) := dk_2 (dk_at dksX2_nth_1 19 rfl rfl)
theorem dX2_nth_44 : decode cX2_nth 44 = .ok (.ireturn, 1) := dk_172 (dk_at dksX2_nth_1 20 rfl rfl)
abbrev cX2_value : ByteArray := prog_20_method_110_code
def yX2_value : MethodName := ⟨RX2, "value", "(II)Z"⟩
def dkwX2_value_1 : List UInt8 := [180, 0, 7, 16, 90, 27, 96, 28, 79, 4, 172]
abbrev dktX2_value_1 : List UInt8 := dkwX2_value_1 ++ []
def dkwX2_value_0 : List UInt8 := [27, 3, 16, 12, 184, 0, 69, 153, 0, 13, 28, 3, 16, 99, 184, 0, 69, 154, 0, 5, 3, 172, 42]
abbrev dktX2_value_0 : List UInt8 := dkwX2_value_0 ++ dktX2_value_1
theorem dksX2_value_0 : cX2_value.data.toList.drop 0 = dktX2_value_0 := by decide +kernel
theorem dksX2_value_1 : cX2_value.data.toList.drop 23 = dktX2_value_1 := dk_seg dksX2_value_0 23 rfl rfl
theorem dX2_value_0 : decode cX2_value 0 = .ok (.iload_n 1, 1) := dk_27 (dk_at dksX2_value_0 0 rfl rfl)
theorem dX2_value_1 : decode cX2_value 1 = .ok (.iconst 0, 1) := dk_3 (dk_at dksX2_value_0 1 rfl rfl)
theorem dX2_value_2 : decode cX2_value 2 = .ok (.bipush 12, 2) := dk_16 12 (dk_at dksX2_value_0 2 rfl rfl)
theorem dX2_value_4 : decode cX2_value 4 = .ok (.invokestatic 69, 3) := dk_184 0 69 (dk_at dksX2_value_0 4 rfl rfl)
theorem dX2_value_7 : decode cX2_value 7 = .ok (.ifCond .eq 13, 3) := dk_153 0 13 (dk_at dksX2_value_0 7 rfl rfl)
theorem dX2_value_10 : decode cX2_value 10 = .ok (.iload_n 2, 1) := dk_28 (dk_at dksX2_value_0 10 rfl rfl)
theorem dX2_value_11 : decode cX2_value 11 = .ok (.iconst 0, 1) := dk_3 (dk_at dksX2_value_0 11 rfl rfl)
theorem dX2_value_12 : decode cX2_value 12 = .ok (.bipush 99, 2) := dk_16 99 (dk_at dksX2_value_0 12 rfl rfl)
theorem dX2_value_14 : decode cX2_value 14 = .ok (.invokestatic 69, 3) := dk_184 0 69 (dk_at dksX2_value_0 14 rfl rfl)
theorem dX2_value_17 : decode cX2_value 17 = .ok (.ifCond .ne 5, 3) := dk_154 0 5 (dk_at dksX2_value_0 17 rfl rfl)
theorem dX2_value_20 : decode cX2_value 20 = .ok (.iconst 0, 1) := dk_3 (dk_at dksX2_value_0 20 rfl rfl)
theorem dX2_value_21 : decode cX2_value 21 = .ok (.ireturn, 1) := dk_172 (dk_at dksX2_value_0 21 rfl rfl)
theorem dX2_value_22 : decode cX2_value 22 = .ok (.aload_n 0, 1) := dk_42 (dk_at dksX2_value_0 22 rfl rfl)
theorem dX2_value_23 : decode cX2_value 23 = .ok (.getfield 7, 3) := dk_180 0 7 (dk_at dksX2_value_1 0 rfl rfl)
theorem dX2_value_26 : decode cX2_value 26 = .ok (.bipush 90, 2) := dk_16 90 (dk_at dksX2_value_1 3 rfl rfl)
theorem dX2_value_28 : decode cX2_value 28 = .ok (.iload_n 1, 1) := dk_27 (dk_at dksX2_value_1 5 rfl rfl)
theorem dX2_value_29 : decode cX2_value 29 = .ok (.iadd, 1) := dk_96 (dk_at dksX2_value_1 6 rfl rfl)
theorem dX2_value_30 : decode cX2_value 30 = .ok (.iload_n 2, 1) := dk_28 (dk_at dksX2_value_1 7 rfl rfl)
theorem dX2_value_31 : decode cX2_value 31 = .ok (.iastore, 1) := dk_79 (dk_at dksX2_value_1 8 rfl rfl)
theorem dX2_value_32 : decode cX2_value 32 = .ok (.iconst 1, 1) := dk_4 (dk_at dksX2_value_1 9 rfl rfl)
theorem dX2_value_33 : decode cX2_value 33 = .ok (.ireturn, 1) := dk_172 (dk_at dksX2_value_1 10 rfl rfl)
abbrev cX2_worth : ByteArray := prog_20_method_112_code
def yX2_worth : MethodName := ⟨RX2, "worth", "(IIZ)J"⟩
def dkwX2_worth_1 : List UInt8 := [180, 0, 53, 3, 47, 21, 4, 184, 1, 137, 29, 184, 1, 141, 173]
abbrev dktX2_worth_1 : List UInt8 := dkwX2_worth_1 ++ []
def dkwX2_worth_0 : List UInt8 := [42, 27, 28, 182, 1, 131, 154, 0, 7, 20, 1, 145, 173, 42, 27, 28, 182, 1, 147, 54, 4, 42]
abbrev dktX2_worth_0 : List UInt8 := dkwX2_worth_0 ++ dktX2_worth_1
theorem dksX2_worth_0 : cX2_worth.data.toList.drop 0 = dktX2_worth_0 := by decide +kernel
theorem dksX2_worth_1 : cX2_worth.data.toList.drop 22 = dktX2_worth_1 := dk_seg dksX2_worth_0 22 rfl rfl
theorem dX2_worth_0 : decode cX2_worth 0 = .ok (.aload_n 0, 1) := dk_42 (dk_at dksX2_worth_0 0 rfl rfl)
theorem dX2_worth_1 : decode cX2_worth 1 = .ok (.iload_n 1, 1) := dk_27 (dk_at dksX2_worth_0 1 rfl rfl)
theorem dX2_worth_2 : decode cX2_worth 2 = .ok (.iload_n 2, 1) := dk_28 (dk_at dksX2_worth_0 2 rfl rfl)
theorem dX2_worth_3 : decode cX2_worth 3 = .ok (.invokevirtual 387, 3) := dk_182 1 131 (dk_at dksX2_worth_0 3 rfl rfl)
theorem dX2_worth_6 : decode cX2_worth 6 = .ok (.ifCond .ne 7, 3) := dk_154 0 7 (dk_at dksX2_worth_0 6 rfl rfl)
theorem dX2_worth_9 : decode cX2_worth 9 = .ok (.ldc2_w 401, 3) := dk_20 1 145 (dk_at dksX2_worth_0 9 rfl rfl)
theorem dX2_worth_12 : decode cX2_worth 12 = .ok (.lreturn, 1) := dk_173 (dk_at dksX2_worth_0 12 rfl rfl)
theorem dX2_worth_13 : decode cX2_worth 13 = .ok (.aload_n 0, 1) := dk_42 (dk_at dksX2_worth_0 13 rfl rfl)
theorem dX2_worth_14 : decode cX2_worth 14 = .ok (.iload_n 1, 1) := dk_27 (dk_at dksX2_worth_0 14 rfl rfl)
theorem dX2_worth_15 : decode cX2_worth 15 = .ok (.iload_n 2, 1) := dk_28 (dk_at dksX2_worth_0 15 rfl rfl)
theorem dX2_worth_16 : decode cX2_worth 16 = .ok (.invokevirtual 403, 3) := dk_182 1 147 (dk_at dksX2_worth_0 16 rfl rfl)
theorem dX2_worth_19 : decode cX2_worth 19 = .ok (.istore 4, 2) := dk_54 4 (dk_at dksX2_worth_0 19 rfl rfl)
theorem dX2_worth_21 : decode cX2_worth 21 = .ok (.aload_n 0, 1) := dk_42 (dk_at dksX2_worth_0 21 rfl rfl)
theorem dX2_worth_22 : decode cX2_worth 22 = .ok (.getfield 53, 3) := dk_180 0 53 (dk_at dksX2_worth_1 0 rfl rfl)
theorem dX2_worth_25 : decode cX2_worth 25 = .ok (.iconst 0, 1) := dk_3 (dk_at dksX2_worth_1 3 rfl rfl)
theorem dX2_worth_26 : decode cX2_worth 26 = .ok (.laload, 1) := dk_47 (dk_at dksX2_worth_1 4 rfl rfl)
theorem dX2_worth_27 : decode cX2_worth 27 = .ok (.iload 4, 2) := dk_21 4 (dk_at dksX2_worth_1 5 rfl rfl)
theorem dX2_worth_29 : decode cX2_worth 29 = .ok (.invokestatic 393, 3) := dk_184 1 137 (dk_at dksX2_worth_1 7 rfl rfl)
theorem dX2_worth_32 : decode cX2_worth 32 = .ok (.iload_n 3, 1) := dk_29 (dk_at dksX2_worth_1 10 rfl rfl)
theorem dX2_worth_33 : decode cX2_worth 33 = .ok (.invokestatic 397, 3) := dk_184 1 141 (dk_at dksX2_worth_1 11 rfl rfl)
theorem dX2_worth_36 : decode cX2_worth 36 = .ok (.lreturn, 1) := dk_173 (dk_at dksX2_worth_1 14 rfl rfl)
abbrev cX2_layWorths : ByteArray := prog_20_method_111_code
def yX2_layWorths : MethodName := ⟨RX2, "layWorths", "(II)I"⟩
def dkwX2_layWorths_5 : List UInt8 := [132, 4, 255, 167, 255, 180, 29, 172]
abbrev dktX2_layWorths_5 : List UInt8 := dkwX2_layWorths_5 ++ []
def dkwX2_layWorths_4 : List UInt8 := [55, 7, 42, 180, 0, 53, 21, 4, 22, 7, 22, 5, 148, 158, 0, 8, 22, 7, 167, 0, 5, 22, 5, 80]
abbrev dktX2_layWorths_4 : List UInt8 := dkwX2_layWorths_4 ++ dktX2_layWorths_5
def dkwX2_layWorths_3 : List UInt8 := [42, 180, 0, 53, 21, 4, 4, 96, 47, 16, 10, 42, 27, 21, 4, 4, 96, 182, 1, 123, 100, 133, 105]
abbrev dktX2_layWorths_3 : List UInt8 := dkwX2_layWorths_3 ++ dktX2_layWorths_4
def dkwX2_layWorths_2 : List UInt8 := [155, 0, 77, 42, 180, 0, 7, 16, 90, 21, 4, 96, 46, 133, 29, 21, 4, 100, 184, 1, 137, 105, 55, 5]
abbrev dktX2_layWorths_2 : List UInt8 := dkwX2_layWorths_2 ++ dktX2_layWorths_3
def dkwX2_layWorths_1 : List UInt8 := [42, 180, 0, 53, 29, 42, 180, 0, 7, 16, 90, 29, 96, 46, 133, 80, 29, 4, 100, 54, 4, 21, 4]
abbrev dktX2_layWorths_1 : List UInt8 := dkwX2_layWorths_1 ++ dktX2_layWorths_2
def dkwX2_layWorths_0 : List UInt8 := [42, 28, 182, 1, 120, 42, 180, 1, 117, 16, 12, 162, 0, 10, 42, 180, 1, 117, 167, 0, 5, 16, 12, 62]
abbrev dktX2_layWorths_0 : List UInt8 := dkwX2_layWorths_0 ++ dktX2_layWorths_1
theorem dksX2_layWorths_0 : cX2_layWorths.data.toList.drop 0 = dktX2_layWorths_0 := by decide +kernel
theorem dksX2_layWorths_1 : cX2_layWorths.data.toList.drop 24 = dktX2_layWorths_1 := dk_seg dksX2_layWorths_0 24 rfl rfl
theorem dksX2_layWorths_2 : cX2_layWorths.data.toList.drop 47 = dktX2_layWorths_2 := dk_seg dksX2_layWorths_1 23 rfl rfl
theorem dksX2_layWorths_3 : cX2_layWorths.data.toList.drop 71 = dktX2_layWorths_3 := dk_seg dksX2_layWorths_2 24 rfl rfl
theorem dksX2_layWorths_4 : cX2_layWorths.data.toList.drop 94 = dktX2_layWorths_4 := dk_seg dksX2_layWorths_3 23 rfl rfl
theorem dksX2_layWorths_5 : cX2_layWorths.data.toList.drop 118 = dktX2_layWorths_5 := dk_seg dksX2_layWorths_4 24 rfl rfl
theorem dX2_layWorths_0 : decode cX2_layWorths 0 = .ok (.aload_n 0, 1) := dk_42 (dk_at dksX2_layWorths_0 0 rfl rfl)
theorem dX2_layWorths_1 : decode cX2_layWorths 1 = .ok (.iload_n 2, 1) := dk_28 (dk_at dksX2_layWorths_0 1 rfl rfl)
theorem dX2_layWorths_2 : decode cX2_layWorths 2 = .ok (.invokevirtual 376, 3) := dk_182 1 120 (dk_at dksX2_layWorths_0 2 rfl rfl)
theorem dX2_layWorths_5 : decode cX2_layWorths 5 = .ok (.aload_n 0, 1) := dk_42 (dk_at dksX2_layWorths_0 5 rfl rfl)
theorem dX2_layWorths_6 : decode cX2_layWorths 6 = .ok (.getfield 373, 3) := dk_180 1 117 (dk_at dksX2_layWorths_0 6 rfl rfl)
theorem dX2_layWorths_9 : decode cX2_layWorths 9 = .ok (.bipush 12, 2) := dk_16 12 (dk_at dksX2_layWorths_0 9 rfl rfl)
theorem dX2_layWorths_11 : decode cX2_layWorths 11 = .ok (.if_icmp .ge 10, 3) := dk_162 0 10 (dk_at dksX2_layWorths_0 11 rfl rfl)
theorem dX2_layWorths_14 : decode cX2_layWorths 14 = .ok (.aload_n 0, 1) := dk_42 (dk_at dksX2_layWorths_0 14 rfl rfl)
theorem dX2_layWorths_15 : decode cX2_layWorths 15 = .ok (.getfield 373, 3) := dk_180 1 117 (dk_at dksX2_layWorths_0 15 rfl rfl)
theorem dX2_layWorths_18 : decode cX2_layWorths 18 = .ok (.goto 5, 3) := dk_167 0 5 (dk_at dksX2_layWorths_0 18 rfl rfl)
theorem dX2_layWorths_21 : decode cX2_layWorths 21 = .ok (.bipush 12, 2) := dk_16 12 (dk_at dksX2_layWorths_0 21 rfl rfl)
theorem dX2_layWorths_23 : decode cX2_layWorths 23 = .ok (.istore_n 3, 1) := dk_62 (dk_at dksX2_layWorths_0 23 rfl rfl)
theorem dX2_layWorths_24 : decode cX2_layWorths 24 = .ok (.aload_n 0, 1) := dk_42 (dk_at dksX2_layWorths_1 0 rfl rfl)
theorem dX2_layWorths_25 : decode cX2_layWorths 25 = .ok (.getfield 53, 3) := dk_180 0 53 (dk_at dksX2_layWorths_1 1 rfl rfl)
theorem dX2_layWorths_28 : decode cX2_layWorths 28 = .ok (.iload_n 3, 1) := dk_29 (dk_at dksX2_layWorths_1 4 rfl rfl)
theorem dX2_layWorths_29 : decode cX2_layWorths 29 = .ok (.aload_n 0, 1) := dk_42 (dk_at dksX2_layWorths_1 5 rfl rfl)
theorem dX2_layWorths_30 : decode cX2_layWorths 30 = .ok (.getfield 7, 3) := dk_180 0 7 (dk_at dksX2_layWorths_1 6 rfl rfl)
theorem dX2_layWorths_33 : decode cX2_layWorths 33 = .ok (.bipush 90, 2) := dk_16 90 (dk_at dksX2_layWorths_1 9 rfl rfl)
theorem dX2_layWorths_35 : decode cX2_layWorths 35 = .ok (.iload_n 3, 1) := dk_29 (dk_at dksX2_layWorths_1 11 rfl rfl)
theorem dX2_layWorths_36 : decode cX2_layWorths 36 = .ok (.iadd, 1) := dk_96 (dk_at dksX2_layWorths_1 12 rfl rfl)
theorem dX2_layWorths_37 : decode cX2_layWorths 37 = .ok (.iaload, 1) := dk_46 (dk_at dksX2_layWorths_1 13 rfl rfl)
theorem dX2_layWorths_38 : decode cX2_layWorths 38 = .ok (.i2l, 1) := dk_133 (dk_at dksX2_layWorths_1 14 rfl rfl)
theorem dX2_layWorths_39 : decode cX2_layWorths 39 = .ok (.lastore, 1) := dk_80 (dk_at dksX2_layWorths_1 15 rfl rfl)
theorem dX2_layWorths_40 : decode cX2_layWorths 40 = .ok (.iload_n 3, 1) := dk_29 (dk_at dksX2_layWorths_1 16 rfl rfl)
theorem dX2_layWorths_41 : decode cX2_layWorths 41 = .ok (.iconst 1, 1) := dk_4 (dk_at dksX2_layWorths_1 17 rfl rfl)
theorem dX2_layWorths_42 : decode cX2_layWorths 42 = .ok (.isub, 1) := dk_100 (dk_at dksX2_layWorths_1 18 rfl rfl)
theorem dX2_layWorths_43 : decode cX2_layWorths 43 = .ok (.istore 4, 2) := dk_54 4 (dk_at dksX2_layWorths_1 19 rfl rfl)
theorem dX2_layWorths_45 : decode cX2_layWorths 45 = .ok (.iload 4, 2) := dk_21 4 (dk_at dksX2_layWorths_1 21 rfl rfl)
theorem dX2_layWorths_47 : decode cX2_layWorths 47 = .ok (.ifCond .lt 77, 3) := dk_155 0 77 (dk_at dksX2_layWorths_2 0 rfl rfl)
theorem dX2_layWorths_50 : decode cX2_layWorths 50 = .ok (.aload_n 0, 1) := dk_42 (dk_at dksX2_layWorths_2 3 rfl rfl)
theorem dX2_layWorths_51 : decode cX2_layWorths 51 = .ok (.getfield 7, 3) := dk_180 0 7 (dk_at dksX2_layWorths_2 4 rfl rfl)
theorem dX2_layWorths_54 : decode cX2_layWorths 54 = .ok (.bipush 90, 2) := dk_16 90 (dk_at dksX2_layWorths_2 7 rfl rfl)
theorem dX2_layWorths_56 : decode cX2_layWorths 56 = .ok (.iload 4, 2) := dk_21 4 (dk_at dksX2_layWorths_2 9 rfl rfl)
theorem dX2_layWorths_58 : decode cX2_layWorths 58 = .ok (.iadd, 1) := dk_96 (dk_at dksX2_layWorths_2 11 rfl rfl)
theorem dX2_layWorths_59 : decode cX2_layWorths 59 = .ok (.iaload, 1) := dk_46 (dk_at dksX2_layWorths_2 12 rfl rfl)
theorem dX2_layWorths_60 : decode cX2_layWorths 60 = .ok (.i2l, 1) := dk_133 (dk_at dksX2_layWorths_2 13 rfl rfl)
theorem dX2_layWorths_61 : decode cX2_layWorths 61 = .ok (.iload_n 3, 1) := dk_29 (dk_at dksX2_layWorths_2 14 rfl rfl)
theorem dX2_layWorths_62 : decode cX2_layWorths 62 = .ok (.iload 4, 2) := dk_21 4 (dk_at dksX2_layWorths_2 15 rfl rfl)
theorem dX2_layWorths_64 : decode cX2_layWorths 64 = .ok (.isub, 1) := dk_100 (dk_at dksX2_layWorths_2 17 rfl rfl)
theorem dX2_layWorths_65 : decode cX2_layWorths 65 = .ok (.invokestatic 393, 3) := dk_184 1 137 (dk_at dksX2_layWorths_2 18 rfl rfl)
theorem dX2_layWorths_68 : decode cX2_layWorths 68 = .ok (.lmul, 1) := dk_105 (dk_at dksX2_layWorths_2 21 rfl rfl)
theorem dX2_layWorths_69 : decode cX2_layWorths 69 = .ok (.lstore 5, 2) := dk_55 5 (dk_at dksX2_layWorths_2 22 rfl rfl)
theorem dX2_layWorths_71 : decode cX2_layWorths 71 = .ok (.aload_n 0, 1) := dk_42 (dk_at dksX2_layWorths_3 0 rfl rfl)
theorem dX2_layWorths_72 : decode cX2_layWorths 72 = .ok (.getfield 53, 3) := dk_180 0 53 (dk_at dksX2_layWorths_3 1 rfl rfl)
theorem dX2_layWorths_75 : decode cX2_layWorths 75 = .ok (.iload 4, 2) := dk_21 4 (dk_at dksX2_layWorths_3 4 rfl rfl)
theorem dX2_layWorths_77 : decode cX2_layWorths 77 = .ok (.iconst 1, 1) := dk_4 (dk_at dksX2_layWorths_3 6 rfl rfl)
theorem dX2_layWorths_78 : decode cX2_layWorths 78 = .ok (.iadd, 1) := dk_96 (dk_at dksX2_layWorths_3 7 rfl rfl)
theorem dX2_layWorths_79 : decode cX2_layWorths 79 = .ok (.laload, 1) := dk_47 (dk_at dksX2_layWorths_3 8 rfl rfl)
theorem dX2_layWorths_80 : decode cX2_layWorths 80 = .ok (.bipush 10, 2) := dk_16 10 (dk_at dksX2_layWorths_3 9 rfl rfl)
theorem dX2_layWorths_82 : decode cX2_layWorths 82 = .ok (.aload_n 0, 1) := dk_42 (dk_at dksX2_layWorths_3 11 rfl rfl)
theorem dX2_layWorths_83 : decode cX2_layWorths 83 = .ok (.iload_n 1, 1) := dk_27 (dk_at dksX2_layWorths_3 12 rfl rfl)
theorem dX2_layWorths_84 : decode cX2_layWorths 84 = .ok (.iload 4, 2) := dk_21 4 (dk_at dksX2_layWorths_3 13 rfl rfl)
theorem dX2_layWorths_86 : decode cX2_layWorths 86 = .ok (.iconst 1, 1) := dk_4 (dk_at dksX2_layWorths_3 15 rfl rfl)
theorem dX2_layWorths_87 : decode cX2_layWorths 87 = .ok (.iadd, 1) := dk_96 (dk_at dksX2_layWorths_3 16 rfl rfl)
theorem dX2_layWorths_88 : decode cX2_layWorths 88 = .ok (.invokevirtual 379, 3) := dk_182 1 123 (dk_at dksX2_layWorths_3 17 rfl rfl)
theorem dX2_layWorths_91 : decode cX2_layWorths 91 = .ok (.isub, 1) := dk_100 (dk_at dksX2_layWorths_3 20 rfl rfl)
theorem dX2_layWorths_92 : decode cX2_layWorths 92 = .ok (.i2l, 1) := dk_133 (dk_at dksX2_layWorths_3 21 rfl rfl)
theorem dX2_layWorths_93 : decode cX2_layWorths 93 = .ok (.lmul, 1) := dk_105 (dk_at dksX2_layWorths_3 22 rfl rfl)
theorem dX2_layWorths_94 : decode cX2_layWorths 94 = .ok (.lstore 7, 2) := dk_55 7 (dk_at dksX2_layWorths_4 0 rfl rfl)
theorem dX2_layWorths_96 : decode cX2_layWorths 96 = .ok (.aload_n 0, 1) := dk_42 (dk_at dksX2_layWorths_4 2 rfl rfl)
theorem dX2_layWorths_97 : decode cX2_layWorths 97 = .ok (.getfield 53, 3) := dk_180 0 53 (dk_at dksX2_layWorths_4 3 rfl rfl)
theorem dX2_layWorths_100 : decode cX2_layWorths 100 = .ok (.iload 4, 2) := dk_21 4 (dk_at dksX2_layWorths_4 6 rfl rfl)
theorem dX2_layWorths_102 : decode cX2_layWorths 102 = .ok (.lload 7, 2) := dk_22 7 (dk_at dksX2_layWorths_4 8 rfl rfl)
theorem dX2_layWorths_104 : decode cX2_layWorths 104 = .ok (.lload 5, 2) := dk_22 5 (dk_at dksX2_layWorths_4 10 rfl rfl)
theorem dX2_layWorths_106 : decode cX2_layWorths 106 = .ok (.lcmp, 1) := dk_148 (dk_at dksX2_layWorths_4 12 rfl rfl)
theorem dX2_layWorths_107 : decode cX2_layWorths 107 = .ok (.ifCond .le 8, 3) := dk_158 0 8 (dk_at dksX2_layWorths_4 13 rfl rfl)
theorem dX2_layWorths_110 : decode cX2_layWorths 110 = .ok (.lload 7, 2) := dk_22 7 (dk_at dksX2_layWorths_4 16 rfl rfl)
theorem dX2_layWorths_112 : decode cX2_layWorths 112 = .ok (.goto 5, 3) := dk_167 0 5 (dk_at dksX2_layWorths_4 18 rfl rfl)
theorem dX2_layWorths_115 : decode cX2_layWorths 115 = .ok (.lload 5, 2) := dk_22 5 (dk_at dksX2_layWorths_4 21 rfl rfl)
theorem dX2_layWorths_117 : decode cX2_layWorths 117 = .ok (.lastore, 1) := dk_80 (dk_at dksX2_layWorths_4 23 rfl rfl)
theorem dX2_layWorths_118 : decode cX2_layWorths 118 = .ok (.iinc 4 (-1), 3) := dk_132 4 255 (dk_at dksX2_layWorths_5 0 rfl rfl)
theorem dX2_layWorths_121 : decode cX2_layWorths 121 = .ok (.goto (-76), 3) := dk_167 255 180 (dk_at dksX2_layWorths_5 3 rfl rfl)
theorem dX2_layWorths_124 : decode cX2_layWorths 124 = .ok (.iload_n 3, 1) := dk_29 (dk_at dksX2_layWorths_5 6 rfl rfl)
theorem dX2_layWorths_125 : decode cX2_layWorths 125 = .ok (.ireturn, 1) := dk_172 (dk_at dksX2_layWorths_5 7 rfl rfl)
abbrev cX2_goesOn : ByteArray := prog_20_method_113_code
def yX2_goesOn : MethodName := ⟨RX2, "goesOn", "(III)I"⟩
def dkwX2_goesOn_3 : List UInt8 := [184, 1, 137, 105, 148, 158, 0, 7, 4, 167, 0, 4, 3, 172]
abbrev dktX2_goesOn_3 : List UInt8 := dkwX2_goesOn_3 ++ []
def dkwX2_goesOn_2 : List UInt8 := [27, 29, 4, 96, 182, 1, 123, 100, 133, 105, 42, 180, 0, 7, 16, 90, 29, 96, 46, 133, 21, 4, 29, 100]
abbrev dktX2_goesOn_2 : List UInt8 := dkwX2_goesOn_2 ++ dktX2_goesOn_3
def dkwX2_goesOn_1 : List UInt8 := [182, 1, 147, 54, 4, 29, 21, 4, 161, 0, 5, 2, 172, 42, 180, 0, 53, 29, 4, 96, 47, 16, 10, 42]
abbrev dktX2_goesOn_1 : List UInt8 := dkwX2_goesOn_1 ++ dktX2_goesOn_2
def dkwX2_goesOn_0 : List UInt8 := [42, 27, 28, 182, 1, 131, 153, 0, 13, 29, 3, 16, 11, 184, 0, 69, 154, 0, 5, 2, 172, 42, 27, 28]
abbrev dktX2_goesOn_0 : List UInt8 := dkwX2_goesOn_0 ++ dktX2_goesOn_1
theorem dksX2_goesOn_0 : cX2_goesOn.data.toList.drop 0 = dktX2_goesOn_0 := by decide +kernel
theorem dksX2_goesOn_1 : cX2_goesOn.data.toList.drop 24 = dktX2_goesOn_1 := dk_seg dksX2_goesOn_0 24 rfl rfl
theorem dksX2_goesOn_2 : cX2_goesOn.data.toList.drop 48 = dktX2_goesOn_2 := dk_seg dksX2_goesOn_1 24 rfl rfl
theorem dksX2_goesOn_3 : cX2_goesOn.data.toList.drop 72 = dktX2_goesOn_3 := dk_seg dksX2_goesOn_2 24 rfl rfl
theorem dX2_goesOn_0 : decode cX2_goesOn 0 = .ok (.aload_n 0, 1) := dk_42 (dk_at dksX2_goesOn_0 0 rfl rfl)
theorem dX2_goesOn_1 : decode cX2_goesOn 1 = .ok (.iload_n 1, 1) := dk_27 (dk_at dksX2_goesOn_0 1 rfl rfl)
theorem dX2_goesOn_2 : decode cX2_goesOn 2 = .ok (.iload_n 2, 1) := dk_28 (dk_at dksX2_goesOn_0 2 rfl rfl)
theorem dX2_goesOn_3 : decode cX2_goesOn 3 = .ok (.invokevirtual 387, 3) := dk_182 1 131 (dk_at dksX2_goesOn_0 3 rfl rfl)
theorem dX2_goesOn_6 : decode cX2_goesOn 6 = .ok (.ifCond .eq 13, 3) := dk_153 0 13 (dk_at dksX2_goesOn_0 6 rfl rfl)
theorem dX2_goesOn_9 : decode cX2_goesOn 9 = .ok (.iload_n 3, 1) := dk_29 (dk_at dksX2_goesOn_0 9 rfl rfl)
theorem dX2_goesOn_10 : decode cX2_goesOn 10 = .ok (.iconst 0, 1) := dk_3 (dk_at dksX2_goesOn_0 10 rfl rfl)
theorem dX2_goesOn_11 : decode cX2_goesOn 11 = .ok (.bipush 11, 2) := dk_16 11 (dk_at dksX2_goesOn_0 11 rfl rfl)
theorem dX2_goesOn_13 : decode cX2_goesOn 13 = .ok (.invokestatic 69, 3) := dk_184 0 69 (dk_at dksX2_goesOn_0 13 rfl rfl)
theorem dX2_goesOn_16 : decode cX2_goesOn 16 = .ok (.ifCond .ne 5, 3) := dk_154 0 5 (dk_at dksX2_goesOn_0 16 rfl rfl)
theorem dX2_goesOn_19 : decode cX2_goesOn 19 = .ok (.iconst (-1), 1) := dk_2 (dk_at dksX2_goesOn_0 19 rfl rfl)
theorem dX2_goesOn_20 : decode cX2_goesOn 20 = .ok (.ireturn, 1) := dk_172 (dk_at dksX2_goesOn_0 20 rfl rfl)
theorem dX2_goesOn_21 : decode cX2_goesOn 21 = .ok (.aload_n 0, 1) := dk_42 (dk_at dksX2_goesOn_0 21 rfl rfl)
theorem dX2_goesOn_22 : decode cX2_goesOn 22 = .ok (.iload_n 1, 1) := dk_27 (dk_at dksX2_goesOn_0 22 rfl rfl)
theorem dX2_goesOn_23 : decode cX2_goesOn 23 = .ok (.iload_n 2, 1) := dk_28 (dk_at dksX2_goesOn_0 23 rfl rfl)
theorem dX2_goesOn_24 : decode cX2_goesOn 24 = .ok (.invokevirtual 403, 3) := dk_182 1 147 (dk_at dksX2_goesOn_1 0 rfl rfl)
theorem dX2_goesOn_27 : decode cX2_goesOn 27 = .ok (.istore 4, 2) := dk_54 4 (dk_at dksX2_goesOn_1 3 rfl rfl)
theorem dX2_goesOn_29 : decode cX2_goesOn 29 = .ok (.iload_n 3, 1) := dk_29 (dk_at dksX2_goesOn_1 5 rfl rfl)
theorem dX2_goesOn_30 : decode cX2_goesOn 30 = .ok (.iload 4, 2) := dk_21 4 (dk_at dksX2_goesOn_1 6 rfl rfl)
theorem dX2_goesOn_32 : decode cX2_goesOn 32 = .ok (.if_icmp .lt 5, 3) := dk_161 0 5 (dk_at dksX2_goesOn_1 8 rfl rfl)
theorem dX2_goesOn_35 : decode cX2_goesOn 35 = .ok (.iconst (-1), 1) := dk_2 (dk_at dksX2_goesOn_1 11 rfl rfl)
theorem dX2_goesOn_36 : decode cX2_goesOn 36 = .ok (.ireturn, 1) := dk_172 (dk_at dksX2_goesOn_1 12 rfl rfl)
theorem dX2_goesOn_37 : decode cX2_goesOn 37 = .ok (.aload_n 0, 1) := dk_42 (dk_at dksX2_goesOn_1 13 rfl rfl)
theorem dX2_goesOn_38 : decode cX2_goesOn 38 = .ok (.getfield 53, 3) := dk_180 0 53 (dk_at dksX2_goesOn_1 14 rfl rfl)
theorem dX2_goesOn_41 : decode cX2_goesOn 41 = .ok (.iload_n 3, 1) := dk_29 (dk_at dksX2_goesOn_1 17 rfl rfl)
theorem dX2_goesOn_42 : decode cX2_goesOn 42 = .ok (.iconst 1, 1) := dk_4 (dk_at dksX2_goesOn_1 18 rfl rfl)
theorem dX2_goesOn_43 : decode cX2_goesOn 43 = .ok (.iadd, 1) := dk_96 (dk_at dksX2_goesOn_1 19 rfl rfl)
theorem dX2_goesOn_44 : decode cX2_goesOn 44 = .ok (.laload, 1) := dk_47 (dk_at dksX2_goesOn_1 20 rfl rfl)
theorem dX2_goesOn_45 : decode cX2_goesOn 45 = .ok (.bipush 10, 2) := dk_16 10 (dk_at dksX2_goesOn_1 21 rfl rfl)
theorem dX2_goesOn_47 : decode cX2_goesOn 47 = .ok (.aload_n 0, 1) := dk_42 (dk_at dksX2_goesOn_1 23 rfl rfl)
theorem dX2_goesOn_48 : decode cX2_goesOn 48 = .ok (.iload_n 1, 1) := dk_27 (dk_at dksX2_goesOn_2 0 rfl rfl)
theorem dX2_goesOn_49 : decode cX2_goesOn 49 = .ok (.iload_n 3, 1) := dk_29 (dk_at dksX2_goesOn_2 1 rfl rfl)
theorem dX2_goesOn_50 : decode cX2_goesOn 50 = .ok (.iconst 1, 1) := dk_4 (dk_at dksX2_goesOn_2 2 rfl rfl)
theorem dX2_goesOn_51 : decode cX2_goesOn 51 = .ok (.iadd, 1) := dk_96 (dk_at dksX2_goesOn_2 3 rfl rfl)
theorem dX2_goesOn_52 : decode cX2_goesOn 52 = .ok (.invokevirtual 379, 3) := dk_182 1 123 (dk_at dksX2_goesOn_2 4 rfl rfl)
theorem dX2_goesOn_55 : decode cX2_goesOn 55 = .ok (.isub, 1) := dk_100 (dk_at dksX2_goesOn_2 7 rfl rfl)
theorem dX2_goesOn_56 : decode cX2_goesOn 56 = .ok (.i2l, 1) := dk_133 (dk_at dksX2_goesOn_2 8 rfl rfl)
theorem dX2_goesOn_57 : decode cX2_goesOn 57 = .ok (.lmul, 1) := dk_105 (dk_at dksX2_goesOn_2 9 rfl rfl)
theorem dX2_goesOn_58 : decode cX2_goesOn 58 = .ok (.aload_n 0, 1) := dk_42 (dk_at dksX2_goesOn_2 10 rfl rfl)
theorem dX2_goesOn_59 : decode cX2_goesOn 59 = .ok (.getfield 7, 3) := dk_180 0 7 (dk_at dksX2_goesOn_2 11 rfl rfl)
theorem dX2_goesOn_62 : decode cX2_goesOn 62 = .ok (.bipush 90, 2) := dk_16 90 (dk_at dksX2_goesOn_2 14 rfl rfl)
theorem dX2_goesOn_64 : decode cX2_goesOn 64 = .ok (.iload_n 3, 1) := dk_29 (dk_at dksX2_goesOn_2 16 rfl rfl)
theorem dX2_goesOn_65 : decode cX2_goesOn 65 = .ok (.iadd, 1) := dk_96 (dk_at dksX2_goesOn_2 17 rfl rfl)
theorem dX2_goesOn_66 : decode cX2_goesOn 66 = .ok (.iaload, 1) := dk_46 (dk_at dksX2_goesOn_2 18 rfl rfl)
theorem dX2_goesOn_67 : decode cX2_goesOn 67 = .ok (.i2l, 1) := dk_133 (dk_at dksX2_goesOn_2 19 rfl rfl)
theorem dX2_goesOn_68 : decode cX2_goesOn 68 = .ok (.iload 4, 2) := dk_21 4 (dk_at dksX2_goesOn_2 20 rfl rfl)
theorem dX2_goesOn_70 : decode cX2_goesOn 70 = .ok (.iload_n 3, 1) := dk_29 (dk_at dksX2_goesOn_2 22 rfl rfl)
theorem dX2_goesOn_71 : decode cX2_goesOn 71 = .ok (.isub, 1) := dk_100 (dk_at dksX2_goesOn_2 23 rfl rfl)
theorem dX2_goesOn_72 : decode cX2_goesOn 72 = .ok (.invokestatic 393, 3) := dk_184 1 137 (dk_at dksX2_goesOn_3 0 rfl rfl)
theorem dX2_goesOn_75 : decode cX2_goesOn 75 = .ok (.lmul, 1) := dk_105 (dk_at dksX2_goesOn_3 3 rfl rfl)
theorem dX2_goesOn_76 : decode cX2_goesOn 76 = .ok (.lcmp, 1) := dk_148 (dk_at dksX2_goesOn_3 4 rfl rfl)
theorem dX2_goesOn_77 : decode cX2_goesOn 77 = .ok (.ifCond .le 7, 3) := dk_158 0 7 (dk_at dksX2_goesOn_3 5 rfl rfl)
theorem dX2_goesOn_80 : decode cX2_goesOn 80 = .ok (.iconst 1, 1) := dk_4 (dk_at dksX2_goesOn_3 8 rfl rfl)
theorem dX2_goesOn_81 : decode cX2_goesOn 81 = .ok (.goto 4, 3) := dk_167 0 4 (dk_at dksX2_goesOn_3 9 rfl rfl)
theorem dX2_goesOn_84 : decode cX2_goesOn 84 = .ok (.iconst 0, 1) := dk_3 (dk_at dksX2_goesOn_3 12 rfl rfl)
theorem dX2_goesOn_85 : decode cX2_goesOn 85 = .ok (.ireturn, 1) := dk_172 (dk_at dksX2_goesOn_3 13 rfl rfl)
abbrev cX2_best : ByteArray := prog_20_method_114_code
def yX2_best : MethodName := ⟨RX2, "best", "(I)I"⟩
def dkwX2_best_3 : List UInt8 := [132, 5, 1, 167, 255, 204, 28, 172]
abbrev dktX2_best_3 : List UInt8 := dkwX2_best_3 ++ []
def dkwX2_best_2 : List UInt8 := [184, 1, 137, 105, 55, 7, 22, 7, 33, 148, 157, 0, 6, 167, 0, 9, 22, 7, 66, 21, 5, 61]
abbrev dktX2_best_2 : List UInt8 := dkwX2_best_2 ++ dktX2_best_3
def dkwX2_best_1 : List UInt8 := [162, 0, 51, 42, 27, 21, 5, 182, 1, 147, 54, 6, 42, 180, 0, 53, 3, 47, 16, 12, 21, 6, 100]
abbrev dktX2_best_1 : List UInt8 := dkwX2_best_1 ++ dktX2_best_2
def dkwX2_best_0 : List UInt8 := [42, 27, 182, 1, 66, 154, 0, 5, 2, 172, 3, 61, 20, 1, 145, 66, 3, 54, 5, 21, 5, 16, 30]
abbrev dktX2_best_0 : List UInt8 := dkwX2_best_0 ++ dktX2_best_1
theorem dksX2_best_0 : cX2_best.data.toList.drop 0 = dktX2_best_0 := by decide +kernel
theorem dksX2_best_1 : cX2_best.data.toList.drop 23 = dktX2_best_1 := dk_seg dksX2_best_0 23 rfl rfl
theorem dksX2_best_2 : cX2_best.data.toList.drop 46 = dktX2_best_2 := dk_seg dksX2_best_1 23 rfl rfl
theorem dksX2_best_3 : cX2_best.data.toList.drop 68 = dktX2_best_3 := dk_seg dksX2_best_2 22 rfl rfl
theorem dX2_best_0 : decode cX2_best 0 = .ok (.aload_n 0, 1) := dk_42 (dk_at dksX2_best_0 0 rfl rfl)
theorem dX2_best_1 : decode cX2_best 1 = .ok (.iload_n 1, 1) := dk_27 (dk_at dksX2_best_0 1 rfl rfl)
theorem dX2_best_2 : decode cX2_best 2 = .ok (.invokevirtual 322, 3) := dk_182 1 66 (dk_at dksX2_best_0 2 rfl rfl)
theorem dX2_best_5 : decode cX2_best 5 = .ok (.ifCond .ne 5, 3) := dk_154 0 5 (dk_at dksX2_best_0 5 rfl rfl)
theorem dX2_best_8 : decode cX2_best 8 = .ok (.iconst (-1), 1) := dk_2 (dk_at dksX2_best_0 8 rfl rfl)
theorem dX2_best_9 : decode cX2_best 9 = .ok (.ireturn, 1) := dk_172 (dk_at dksX2_best_0 9 rfl rfl)
theorem dX2_best_10 : decode cX2_best 10 = .ok (.iconst 0, 1) := dk_3 (dk_at dksX2_best_0 10 rfl rfl)
theorem dX2_best_11 : decode cX2_best 11 = .ok (.istore_n 2, 1) := dk_61 (dk_at dksX2_best_0 11 rfl rfl)
theorem dX2_best_12 : decode cX2_best 12 = .ok (.ldc2_w 401, 3) := dk_20 1 145 (dk_at dksX2_best_0 12 rfl rfl)
theorem dX2_best_15 : decode cX2_best 15 = .ok (.lstore_n 3, 1) := dk_66 (dk_at dksX2_best_0 15 rfl rfl)
theorem dX2_best_16 : decode cX2_best 16 = .ok (.iconst 0, 1) := dk_3 (dk_at dksX2_best_0 16 rfl rfl)
theorem dX2_best_17 : decode cX2_best 17 = .ok (.istore 5, 2) := dk_54 5 (dk_at dksX2_best_0 17 rfl rfl)
theorem dX2_best_19 : decode cX2_best 19 = .ok (.iload 5, 2) := dk_21 5 (dk_at dksX2_best_0 19 rfl rfl)
theorem dX2_best_21 : decode cX2_best 21 = .ok (.bipush 30, 2) := dk_16 30 (dk_at dksX2_best_0 21 rfl rfl)
theorem dX2_best_23 : decode cX2_best 23 = .ok (.if_icmp .ge 51, 3) := dk_162 0 51 (dk_at dksX2_best_1 0 rfl rfl)
theorem dX2_best_26 : decode cX2_best 26 = .ok (.aload_n 0, 1) := dk_42 (dk_at dksX2_best_1 3 rfl rfl)
theorem dX2_best_27 : decode cX2_best 27 = .ok (.iload_n 1, 1) := dk_27 (dk_at dksX2_best_1 4 rfl rfl)
theorem dX2_best_28 : decode cX2_best 28 = .ok (.iload 5, 2) := dk_21 5 (dk_at dksX2_best_1 5 rfl rfl)
theorem dX2_best_30 : decode cX2_best 30 = .ok (.invokevirtual 403, 3) := dk_182 1 147 (dk_at dksX2_best_1 7 rfl rfl)
theorem dX2_best_33 : decode cX2_best 33 = .ok (.istore 6, 2) := dk_54 6 (dk_at dksX2_best_1 10 rfl rfl)
theorem dX2_best_35 : decode cX2_best 35 = .ok (.aload_n 0, 1) := dk_42 (dk_at dksX2_best_1 12 rfl rfl)
theorem dX2_best_36 : decode cX2_best 36 = .ok (.getfield 53, 3) := dk_180 0 53 (dk_at dksX2_best_1 13 rfl rfl)
theorem dX2_best_39 : decode cX2_best 39 = .ok (.iconst 0, 1) := dk_3 (dk_at dksX2_best_1 16 rfl rfl)
theorem dX2_best_40 : decode cX2_best 40 = .ok (.laload, 1) := dk_47 (dk_at dksX2_best_1 17 rfl rfl)
theorem dX2_best_41 : decode cX2_best 41 = .ok (.bipush 12, 2) := dk_16 12 (dk_at dksX2_best_1 18 rfl rfl)
theorem dX2_best_43 : decode cX2_best 43 = .ok (.iload 6, 2) := dk_21 6 (dk_at dksX2_best_1 20 rfl rfl)
theorem dX2_best_45 : decode cX2_best 45 = .ok (.isub, 1) := dk_100 (dk_at dksX2_best_1 22 rfl rfl)
theorem dX2_best_46 : decode cX2_best 46 = .ok (.invokestatic 393, 3) := dk_184 1 137 (dk_at dksX2_best_2 0 rfl rfl)
theorem dX2_best_49 : decode cX2_best 49 = .ok (.lmul, 1) := dk_105 (dk_at dksX2_best_2 3 rfl rfl)
theorem dX2_best_50 : decode cX2_best 50 = .ok (.lstore 7, 2) := dk_55 7 (dk_at dksX2_best_2 4 rfl rfl)
theorem dX2_best_52 : decode cX2_best 52 = .ok (.lload 7, 2) := dk_22 7 (dk_at dksX2_best_2 6 rfl rfl)
theorem dX2_best_54 : decode cX2_best 54 = .ok (.lload_n 3, 1) := dk_33 (dk_at dksX2_best_2 8 rfl rfl)
theorem dX2_best_55 : decode cX2_best 55 = .ok (.lcmp, 1) := dk_148 (dk_at dksX2_best_2 9 rfl rfl)
theorem dX2_best_56 : decode cX2_best 56 = .ok (.ifCond .gt 6, 3) := dk_157 0 6 (dk_at dksX2_best_2 10 rfl rfl)
theorem dX2_best_59 : decode cX2_best 59 = .ok (.goto 9, 3) := dk_167 0 9 (dk_at dksX2_best_2 13 rfl rfl)
theorem dX2_best_62 : decode cX2_best 62 = .ok (.lload 7, 2) := dk_22 7 (dk_at dksX2_best_2 16 rfl rfl)
theorem dX2_best_64 : decode cX2_best 64 = .ok (.lstore_n 3, 1) := dk_66 (dk_at dksX2_best_2 18 rfl rfl)
theorem dX2_best_65 : decode cX2_best 65 = .ok (.iload 5, 2) := dk_21 5 (dk_at dksX2_best_2 19 rfl rfl)
theorem dX2_best_67 : decode cX2_best 67 = .ok (.istore_n 2, 1) := dk_61 (dk_at dksX2_best_2 21 rfl rfl)
theorem dX2_best_68 : decode cX2_best 68 = .ok (.iinc 5 1, 3) := dk_132 5 1 (dk_at dksX2_best_3 0 rfl rfl)
theorem dX2_best_71 : decode cX2_best 71 = .ok (.goto (-52), 3) := dk_167 255 204 (dk_at dksX2_best_3 3 rfl rfl)
theorem dX2_best_74 : decode cX2_best 74 = .ok (.iload_n 2, 1) := dk_28 (dk_at dksX2_best_3 6 rfl rfl)
theorem dX2_best_75 : decode cX2_best 75 = .ok (.ireturn, 1) := dk_172 (dk_at dksX2_best_3 7 rfl rfl)
abbrev cX2_tell : ByteArray := prog_20_method_115_code
def yX2_tell : MethodName := ⟨RX2, "tell", "(III)I"⟩
def dkwX2_tell_4 : List UInt8 := [21, 4, 5, 96, 29, 79, 42, 180, 0, 7, 7, 92, 46, 4, 96, 79, 42, 180, 0, 7, 7, 46, 172]
abbrev dktX2_tell_4 : List UInt8 := dkwX2_tell_4 ++ []
def dkwX2_tell_3 : List UInt8 := [54, 4, 42, 180, 0, 7, 21, 4, 27, 79, 42, 180, 0, 7, 21, 4, 4, 96, 28, 79, 42, 180, 0, 7]
abbrev dktX2_tell_3 : List UInt8 := dkwX2_tell_3 ++ dktX2_tell_4
def dkwX2_tell_2 : List UInt8 := [180, 0, 7, 7, 46, 16, 6, 160, 0, 6, 16, 254, 172, 16, 103, 6, 42, 180, 0, 7, 7, 46, 104, 96]
abbrev dktX2_tell_2 : List UInt8 := dkwX2_tell_2 ++ dktX2_tell_3
def dkwX2_tell_1 : List UInt8 := [28, 4, 16, 12, 27, 100, 184, 0, 69, 153, 0, 24, 29, 3, 16, 12, 184, 0, 69, 153, 0, 14, 42]
abbrev dktX2_tell_1 : List UInt8 := dkwX2_tell_1 ++ dktX2_tell_2
def dkwX2_tell_0 : List UInt8 := [27, 2, 160, 0, 12, 42, 180, 0, 7, 7, 3, 79, 3, 172, 27, 3, 16, 11, 184, 0, 69, 153, 0, 36]
abbrev dktX2_tell_0 : List UInt8 := dkwX2_tell_0 ++ dktX2_tell_1
theorem dksX2_tell_0 : cX2_tell.data.toList.drop 0 = dktX2_tell_0 := by decide +kernel
theorem dksX2_tell_1 : cX2_tell.data.toList.drop 24 = dktX2_tell_1 := dk_seg dksX2_tell_0 24 rfl rfl
theorem dksX2_tell_2 : cX2_tell.data.toList.drop 47 = dktX2_tell_2 := dk_seg dksX2_tell_1 23 rfl rfl
theorem dksX2_tell_3 : cX2_tell.data.toList.drop 71 = dktX2_tell_3 := dk_seg dksX2_tell_2 24 rfl rfl
theorem dksX2_tell_4 : cX2_tell.data.toList.drop 95 = dktX2_tell_4 := dk_seg dksX2_tell_3 24 rfl rfl
theorem dX2_tell_0 : decode cX2_tell 0 = .ok (.iload_n 1, 1) := dk_27 (dk_at dksX2_tell_0 0 rfl rfl)
theorem dX2_tell_1 : decode cX2_tell 1 = .ok (.iconst (-1), 1) := dk_2 (dk_at dksX2_tell_0 1 rfl rfl)
theorem dX2_tell_2 : decode cX2_tell 2 = .ok (.if_icmp .ne 12, 3) := dk_160 0 12 (dk_at dksX2_tell_0 2 rfl rfl)
theorem dX2_tell_5 : decode cX2_tell 5 = .ok (.aload_n 0, 1) := dk_42 (dk_at dksX2_tell_0 5 rfl rfl)
theorem dX2_tell_6 : decode cX2_tell 6 = .ok (.getfield 7, 3) := dk_180 0 7 (dk_at dksX2_tell_0 6 rfl rfl)
theorem dX2_tell_9 : decode cX2_tell 9 = .ok (.iconst 4, 1) := dk_7 (dk_at dksX2_tell_0 9 rfl rfl)
theorem dX2_tell_10 : decode cX2_tell 10 = .ok (.iconst 0, 1) := dk_3 (dk_at dksX2_tell_0 10 rfl rfl)
theorem dX2_tell_11 : decode cX2_tell 11 = .ok (.iastore, 1) := dk_79 (dk_at dksX2_tell_0 11 rfl rfl)
theorem dX2_tell_12 : decode cX2_tell 12 = .ok (.iconst 0, 1) := dk_3 (dk_at dksX2_tell_0 12 rfl rfl)
theorem dX2_tell_13 : decode cX2_tell 13 = .ok (.ireturn, 1) := dk_172 (dk_at dksX2_tell_0 13 rfl rfl)
theorem dX2_tell_14 : decode cX2_tell 14 = .ok (.iload_n 1, 1) := dk_27 (dk_at dksX2_tell_0 14 rfl rfl)
theorem dX2_tell_15 : decode cX2_tell 15 = .ok (.iconst 0, 1) := dk_3 (dk_at dksX2_tell_0 15 rfl rfl)
theorem dX2_tell_16 : decode cX2_tell 16 = .ok (.bipush 11, 2) := dk_16 11 (dk_at dksX2_tell_0 16 rfl rfl)
theorem dX2_tell_18 : decode cX2_tell 18 = .ok (.invokestatic 69, 3) := dk_184 0 69 (dk_at dksX2_tell_0 18 rfl rfl)
theorem dX2_tell_21 : decode cX2_tell 21 = .ok (.ifCond .eq 36, 3) := dk_153 0 36 (dk_at dksX2_tell_0 21 rfl rfl)
theorem dX2_tell_24 : decode cX2_tell 24 = .ok (.iload_n 2, 1) := dk_28 (dk_at dksX2_tell_1 0 rfl rfl)
theorem dX2_tell_25 : decode cX2_tell 25 = .ok (.iconst 1, 1) := dk_4 (dk_at dksX2_tell_1 1 rfl rfl)
theorem dX2_tell_26 : decode cX2_tell 26 = .ok (.bipush 12, 2) := dk_16 12 (dk_at dksX2_tell_1 2 rfl rfl)
theorem dX2_tell_28 : decode cX2_tell 28 = .ok (.iload_n 1, 1) := dk_27 (dk_at dksX2_tell_1 4 rfl rfl)
theorem dX2_tell_29 : decode cX2_tell 29 = .ok (.isub, 1) := dk_100 (dk_at dksX2_tell_1 5 rfl rfl)
theorem dX2_tell_30 : decode cX2_tell 30 = .ok (.invokestatic 69, 3) := dk_184 0 69 (dk_at dksX2_tell_1 6 rfl rfl)
theorem dX2_tell_33 : decode cX2_tell 33 = .ok (.ifCond .eq 24, 3) := dk_153 0 24 (dk_at dksX2_tell_1 9 rfl rfl)
theorem dX2_tell_36 : decode cX2_tell 36 = .ok (.iload_n 3, 1) := dk_29 (dk_at dksX2_tell_1 12 rfl rfl)
theorem dX2_tell_37 : decode cX2_tell 37 = .ok (.iconst 0, 1) := dk_3 (dk_at dksX2_tell_1 13 rfl rfl)
theorem dX2_tell_38 : decode cX2_tell 38 = .ok (.bipush 12, 2) := dk_16 12 (dk_at dksX2_tell_1 14 rfl rfl)
theorem dX2_tell_40 : decode cX2_tell 40 = .ok (.invokestatic 69, 3) := dk_184 0 69 (dk_at dksX2_tell_1 16 rfl rfl)
theorem dX2_tell_43 : decode cX2_tell 43 = .ok (.ifCond .eq 14, 3) := dk_153 0 14 (dk_at dksX2_tell_1 19 rfl rfl)
theorem dX2_tell_46 : decode cX2_tell 46 = .ok (.aload_n 0, 1) := dk_42 (dk_at dksX2_tell_1 22 rfl rfl)
theorem dX2_tell_47 : decode cX2_tell 47 = .ok (.getfield 7, 3) := dk_180 0 7 (dk_at dksX2_tell_2 0 rfl rfl)
theorem dX2_tell_50 : decode cX2_tell 50 = .ok (.iconst 4, 1) := dk_7 (dk_at dksX2_tell_2 3 rfl rfl)
theorem dX2_tell_51 : decode cX2_tell 51 = .ok (.iaload, 1) := dk_46 (dk_at dksX2_tell_2 4 rfl rfl)
theorem dX2_tell_52 : decode cX2_tell 52 = .ok (.bipush 6, 2) := dk_16 6 (dk_at dksX2_tell_2 5 rfl rfl)
theorem dX2_tell_54 : decode cX2_tell 54 = .ok (.if_icmp .ne 6, 3) := dk_160 0 6 (dk_at dksX2_tell_2 7 rfl rfl)
theorem dX2_tell_57 : decode cX2_tell 57 = .ok (.bipush (-2), 2) := dk_16 254 (dk_at dksX2_tell_2 10 rfl rfl)
theorem dX2_tell_59 : decode cX2_tell 59 = .ok (.ireturn, 1) := dk_172 (dk_at dksX2_tell_2 12 rfl rfl)
theorem dX2_tell_60 : decode cX2_tell 60 = .ok (.bipush 103, 2) := dk_16 103 (dk_at dksX2_tell_2 13 rfl rfl)
theorem dX2_tell_62 : decode cX2_tell 62 = .ok (.iconst 3, 1) := dk_6 (dk_at dksX2_tell_2 15 rfl rfl)
theorem dX2_tell_63 : decode cX2_tell 63 = .ok (.aload_n 0, 1) := dk_42 (dk_at dksX2_tell_2 16 rfl rfl)
theorem dX2_tell_64 : decode cX2_tell 64 = .ok (.getfield 7, 3) := dk_180 0 7 (dk_at dksX2_tell_2 17 rfl rfl)
theorem dX2_tell_67 : decode cX2_tell 67 = .ok (.iconst 4, 1) := dk_7 (dk_at dksX2_tell_2 20 rfl rfl)
theorem dX2_tell_68 : decode cX2_tell 68 = .ok (.iaload, 1) := dk_46 (dk_at dksX2_tell_2 21 rfl rfl)
theorem dX2_tell_69 : decode cX2_tell 69 = .ok (.imul, 1) := dk_104 (dk_at dksX2_tell_2 22 rfl rfl)
theorem dX2_tell_70 : decode cX2_tell 70 = .ok (.iadd, 1) := dk_96 (dk_at dksX2_tell_2 23 rfl rfl)
theorem dX2_tell_71 : decode cX2_tell 71 = .ok (.istore 4, 2) := dk_54 4 (dk_at dksX2_tell_3 0 rfl rfl)
theorem dX2_tell_73 : decode cX2_tell 73 = .ok (.aload_n 0, 1) := dk_42 (dk_at dksX2_tell_3 2 rfl rfl)
theorem dX2_tell_74 : decode cX2_tell 74 = .ok (.getfield 7, 3) := dk_180 0 7 (dk_at dksX2_tell_3 3 rfl rfl)
theorem dX2_tell_77 : decode cX2_tell 77 = .ok (.iload 4, 2) := dk_21 4 (dk_at dksX2_tell_3 6 rfl rfl)
theorem dX2_tell_79 : decode cX2_tell 79 = .ok (.iload_n 1, 1) := dk_27 (dk_at dksX2_tell_3 8 rfl rfl)
theorem dX2_tell_80 : decode cX2_tell 80 = .ok (.iastore, 1) := dk_79 (dk_at dksX2_tell_3 9 rfl rfl)
theorem dX2_tell_81 : decode cX2_tell 81 = .ok (.aload_n 0, 1) := dk_42 (dk_at dksX2_tell_3 10 rfl rfl)
theorem dX2_tell_82 : decode cX2_tell 82 = .ok (.getfield 7, 3) := dk_180 0 7 (dk_at dksX2_tell_3 11 rfl rfl)
theorem dX2_tell_85 : decode cX2_tell 85 = .ok (.iload 4, 2) := dk_21 4 (dk_at dksX2_tell_3 14 rfl rfl)
theorem dX2_tell_87 : decode cX2_tell 87 = .ok (.iconst 1, 1) := dk_4 (dk_at dksX2_tell_3 16 rfl rfl)
theorem dX2_tell_88 : decode cX2_tell 88 = .ok (.iadd, 1) := dk_96 (dk_at dksX2_tell_3 17 rfl rfl)
theorem dX2_tell_89 : decode cX2_tell 89 = .ok (.iload_n 2, 1) := dk_28 (dk_at dksX2_tell_3 18 rfl rfl)
theorem dX2_tell_90 : decode cX2_tell 90 = .ok (.iastore, 1) := dk_79 (dk_at dksX2_tell_3 19 rfl rfl)
theorem dX2_tell_91 : decode cX2_tell 91 = .ok (.aload_n 0, 1) := dk_42 (dk_at dksX2_tell_3 20 rfl rfl)
theorem dX2_tell_92 : decode cX2_tell 92 = .ok (.getfield 7, 3) := dk_180 0 7 (dk_at dksX2_tell_3 21 rfl rfl)
theorem dX2_tell_95 : decode cX2_tell 95 = .ok (.iload 4, 2) := dk_21 4 (dk_at dksX2_tell_4 0 rfl rfl)
theorem dX2_tell_97 : decode cX2_tell 97 = .ok (.iconst 2, 1) := dk_5 (dk_at dksX2_tell_4 2 rfl rfl)
theorem dX2_tell_98 : decode cX2_tell 98 = .ok (.iadd, 1) := dk_96 (dk_at dksX2_tell_4 3 rfl rfl)
theorem dX2_tell_99 : decode cX2_tell 99 = .ok (.iload_n 3, 1) := dk_29 (dk_at dksX2_tell_4 4 rfl rfl)
theorem dX2_tell_100 : decode cX2_tell 100 = .ok (.iastore, 1) := dk_79 (dk_at dksX2_tell_4 5 rfl rfl)
theorem dX2_tell_101 : decode cX2_tell 101 = .ok (.aload_n 0, 1) := dk_42 (dk_at dksX2_tell_4 6 rfl rfl)
theorem dX2_tell_102 : decode cX2_tell 102 = .ok (.getfield 7, 3) := dk_180 0 7 (dk_at dksX2_tell_4 7 rfl rfl)
theorem dX2_tell_105 : decode cX2_tell 105 = .ok (.iconst 4, 1) := dk_7 (dk_at dksX2_tell_4 10 rfl rfl)
theorem dX2_tell_106 : decode cX2_tell 106 = .ok (.dup2, 1) := dk_92 (dk_at dksX2_tell_4 11 rfl rfl)
theorem dX2_tell_107 : decode cX2_tell 107 = .ok (.iaload, 1) := dk_46 (dk_at dksX2_tell_4 12 rfl rfl)
theorem dX2_tell_108 : decode cX2_tell 108 = .ok (.iconst 1, 1) := dk_4 (dk_at dksX2_tell_4 13 rfl rfl)
theorem dX2_tell_109 : decode cX2_tell 109 = .ok (.iadd, 1) := dk_96 (dk_at dksX2_tell_4 14 rfl rfl)
theorem dX2_tell_110 : decode cX2_tell 110 = .ok (.iastore, 1) := dk_79 (dk_at dksX2_tell_4 15 rfl rfl)
theorem dX2_tell_111 : decode cX2_tell 111 = .ok (.aload_n 0, 1) := dk_42 (dk_at dksX2_tell_4 16 rfl rfl)
theorem dX2_tell_112 : decode cX2_tell 112 = .ok (.getfield 7, 3) := dk_180 0 7 (dk_at dksX2_tell_4 17 rfl rfl)
theorem dX2_tell_115 : decode cX2_tell 115 = .ok (.iconst 4, 1) := dk_7 (dk_at dksX2_tell_4 20 rfl rfl)
theorem dX2_tell_116 : decode cX2_tell 116 = .ok (.iaload, 1) := dk_46 (dk_at dksX2_tell_4 21 rfl rfl)
theorem dX2_tell_117 : decode cX2_tell 117 = .ok (.ireturn, 1) := dk_172 (dk_at dksX2_tell_4 22 rfl rfl)
abbrev cX2_could : ByteArray := prog_20_method_118_code
def yX2_could : MethodName := ⟨RX2, "could", "(II)I"⟩
def dkwX2_could_4 : List UInt8 := [167, 0, 15, 28, 4, 160, 0, 8, 21, 4, 167, 0, 5, 21, 5, 172]
abbrev dktX2_could_4 : List UInt8 := dkwX2_could_4 ++ []
def dkwX2_could_3 : List UInt8 := [130, 126, 54, 5, 132, 6, 1, 167, 255, 213, 28, 154, 0, 7, 29, 167, 0, 23, 29, 154, 0, 7, 2]
abbrev dktX2_could_3 : List UInt8 := dkwX2_could_3 ++ dktX2_could_4
def dkwX2_could_2 : List UInt8 := [182, 1, 156, 154, 0, 6, 167, 0, 22, 132, 3, 1, 21, 4, 21, 6, 126, 54, 4, 21, 5, 21, 6, 2]
abbrev dktX2_could_2 : List UInt8 := dkwX2_could_2 ++ dktX2_could_3
def dkwX2_could_1 : List UInt8 := [17, 15, 255, 54, 4, 21, 4, 54, 5, 3, 54, 6, 21, 6, 17, 16, 0, 162, 0, 41, 42, 21, 6, 27]
abbrev dktX2_could_1 : List UInt8 := dkwX2_could_1 ++ dktX2_could_2
def dkwX2_could_0 : List UInt8 := [27, 3, 5, 184, 0, 69, 153, 0, 12, 28, 3, 5, 184, 0, 69, 154, 0, 5, 2, 172, 3, 62]
abbrev dktX2_could_0 : List UInt8 := dkwX2_could_0 ++ dktX2_could_1
theorem dksX2_could_0 : cX2_could.data.toList.drop 0 = dktX2_could_0 := by decide +kernel
theorem dksX2_could_1 : cX2_could.data.toList.drop 22 = dktX2_could_1 := dk_seg dksX2_could_0 22 rfl rfl
theorem dksX2_could_2 : cX2_could.data.toList.drop 46 = dktX2_could_2 := dk_seg dksX2_could_1 24 rfl rfl
theorem dksX2_could_3 : cX2_could.data.toList.drop 70 = dktX2_could_3 := dk_seg dksX2_could_2 24 rfl rfl
theorem dksX2_could_4 : cX2_could.data.toList.drop 93 = dktX2_could_4 := dk_seg dksX2_could_3 23 rfl rfl
theorem dX2_could_0 : decode cX2_could 0 = .ok (.iload_n 1, 1) := dk_27 (dk_at dksX2_could_0 0 rfl rfl)
theorem dX2_could_1 : decode cX2_could 1 = .ok (.iconst 0, 1) := dk_3 (dk_at dksX2_could_0 1 rfl rfl)
theorem dX2_could_2 : decode cX2_could 2 = .ok (.iconst 2, 1) := dk_5 (dk_at dksX2_could_0 2 rfl rfl)
theorem dX2_could_3 : decode cX2_could 3 = .ok (.invokestatic 69, 3) := dk_184 0 69 (dk_at dksX2_could_0 3 rfl rfl)
theorem dX2_could_6 : decode cX2_could 6 = .ok (.ifCond .eq 12, 3) := dk_153 0 12 (dk_at dksX2_could_0 6 rfl rfl)
theorem dX2_could_9 : decode cX2_could 9 = .ok (.iload_n 2, 1) := dk_28 (dk_at dksX2_could_0 9 rfl rfl)
theorem dX2_could_10 : decode cX2_could 10 = .ok (.iconst 0, 1) := dk_3 (dk_at dksX2_could_0 10 rfl rfl)
theorem dX2_could_11 : decode cX2_could 11 = .ok (.iconst 2, 1) := dk_5 (dk_at dksX2_could_0 11 rfl rfl)
theorem dX2_could_12 : decode cX2_could 12 = .ok (.invokestatic 69, 3) := dk_184 0 69 (dk_at dksX2_could_0 12 rfl rfl)
theorem dX2_could_15 : decode cX2_could 15 = .ok (.ifCond .ne 5, 3) := dk_154 0 5 (dk_at dksX2_could_0 15 rfl rfl)
theorem dX2_could_18 : decode cX2_could 18 = .ok (.iconst (-1), 1) := dk_2 (dk_at dksX2_could_0 18 rfl rfl)
theorem dX2_could_19 : decode cX2_could 19 = .ok (.ireturn, 1) := dk_172 (dk_at dksX2_could_0 19 rfl rfl)
theorem dX2_could_20 : decode cX2_could 20 = .ok (.iconst 0, 1) := dk_3 (dk_at dksX2_could_0 20 rfl rfl)
theorem dX2_could_21 : decode cX2_could 21 = .ok (.istore_n 3, 1) := dk_62 (dk_at dksX2_could_0 21 rfl rfl)
theorem dX2_could_22 : decode cX2_could 22 = .ok (.sipush 4095, 3) := dk_17 15 255 (dk_at dksX2_could_1 0 rfl rfl)
theorem dX2_could_25 : decode cX2_could 25 = .ok (.istore 4, 2) := dk_54 4 (dk_at dksX2_could_1 3 rfl rfl)
theorem dX2_could_27 : decode cX2_could 27 = .ok (.iload 4, 2) := dk_21 4 (dk_at dksX2_could_1 5 rfl rfl)
theorem dX2_could_29 : decode cX2_could 29 = .ok (.istore 5, 2) := dk_54 5 (dk_at dksX2_could_1 7 rfl rfl)
theorem dX2_could_31 : decode cX2_could 31 = .ok (.iconst 0, 1) := dk_3 (dk_at dksX2_could_1 9 rfl rfl)
theorem dX2_could_32 : decode cX2_could 32 = .ok (.istore 6, 2) := dk_54 6 (dk_at dksX2_could_1 10 rfl rfl)
theorem dX2_could_34 : decode cX2_could 34 = .ok (.iload 6, 2) := dk_21 6 (dk_at dksX2_could_1 12 rfl rfl)
theorem dX2_could_36 : decode cX2_could 36 = .ok (.sipush 4096, 3) := dk_17 16 0 (dk_at dksX2_could_1 14 rfl rfl)
theorem dX2_could_39 : decode cX2_could 39 = .ok (.if_icmp .ge 41, 3) := dk_162 0 41 (dk_at dksX2_could_1 17 rfl rfl)
theorem dX2_could_42 : decode cX2_could 42 = .ok (.aload_n 0, 1) := dk_42 (dk_at dksX2_could_1 20 rfl rfl)
theorem dX2_could_43 : decode cX2_could 43 = .ok (.iload 6, 2) := dk_21 6 (dk_at dksX2_could_1 21 rfl rfl)
theorem dX2_could_45 : decode cX2_could 45 = .ok (.iload_n 1, 1) := dk_27 (dk_at dksX2_could_1 23 rfl rfl)
theorem dX2_could_46 : decode cX2_could 46 = .ok (.invokevirtual 412, 3) := dk_182 1 156 (dk_at dksX2_could_2 0 rfl rfl)
theorem dX2_could_49 : decode cX2_could 49 = .ok (.ifCond .ne 6, 3) := dk_154 0 6 (dk_at dksX2_could_2 3 rfl rfl)
theorem dX2_could_52 : decode cX2_could 52 = .ok (.goto 22, 3) := dk_167 0 22 (dk_at dksX2_could_2 6 rfl rfl)
theorem dX2_could_55 : decode cX2_could 55 = .ok (.iinc 3 1, 3) := dk_132 3 1 (dk_at dksX2_could_2 9 rfl rfl)
theorem dX2_could_58 : decode cX2_could 58 = .ok (.iload 4, 2) := dk_21 4 (dk_at dksX2_could_2 12 rfl rfl)
theorem dX2_could_60 : decode cX2_could 60 = .ok (.iload 6, 2) := dk_21 6 (dk_at dksX2_could_2 14 rfl rfl)
theorem dX2_could_62 : decode cX2_could 62 = .ok (.iand, 1) := dk_126 (dk_at dksX2_could_2 16 rfl rfl)
theorem dX2_could_63 : decode cX2_could 63 = .ok (.istore 4, 2) := dk_54 4 (dk_at dksX2_could_2 17 rfl rfl)
theorem dX2_could_65 : decode cX2_could 65 = .ok (.iload 5, 2) := dk_21 5 (dk_at dksX2_could_2 19 rfl rfl)
theorem dX2_could_67 : decode cX2_could 67 = .ok (.iload 6, 2) := dk_21 6 (dk_at dksX2_could_2 21 rfl rfl)
theorem dX2_could_69 : decode cX2_could 69 = .ok (.iconst (-1), 1) := dk_2 (dk_at dksX2_could_2 23 rfl rfl)
theorem dX2_could_70 : decode cX2_could 70 = .ok (.ixor, 1) := dk_130 (dk_at dksX2_could_3 0 rfl rfl)
theorem dX2_could_71 : decode cX2_could 71 = .ok (.iand, 1) := dk_126 (dk_at dksX2_could_3 1 rfl rfl)
theorem dX2_could_72 : decode cX2_could 72 = .ok (.istore 5, 2) := dk_54 5 (dk_at dksX2_could_3 2 rfl rfl)
theorem dX2_could_74 : decode cX2_could 74 = .ok (.iinc 6 1, 3) := dk_132 6 1 (dk_at dksX2_could_3 4 rfl rfl)
theorem dX2_could_77 : decode cX2_could 77 = .ok (.goto (-43), 3) := dk_167 255 213 (dk_at dksX2_could_3 7 rfl rfl)
theorem dX2_could_80 : decode cX2_could 80 = .ok (.iload_n 2, 1) := dk_28 (dk_at dksX2_could_3 10 rfl rfl)
theorem dX2_could_81 : decode cX2_could 81 = .ok (.ifCond .ne 7, 3) := dk_154 0 7 (dk_at dksX2_could_3 11 rfl rfl)
theorem dX2_could_84 : decode cX2_could 84 = .ok (.iload_n 3, 1) := dk_29 (dk_at dksX2_could_3 14 rfl rfl)
theorem dX2_could_85 : decode cX2_could 85 = .ok (.goto 23, 3) := dk_167 0 23 (dk_at dksX2_could_3 15 rfl rfl)
theorem dX2_could_88 : decode cX2_could 88 = .ok (.iload_n 3, 1) := dk_29 (dk_at dksX2_could_3 18 rfl rfl)
theorem dX2_could_89 : decode cX2_could 89 = .ok (.ifCond .ne 7, 3) := dk_154 0 7 (dk_at dksX2_could_3 19 rfl rfl)
theorem dX2_could_92 : decode cX2_could 92 = .ok (.iconst (-1), 1) := dk_2 (dk_at dksX2_could_3 22 rfl rfl)
theorem dX2_could_93 : decode cX2_could 93 = .ok (.goto 15, 3) := dk_167 0 15 (dk_at dksX2_could_4 0 rfl rfl)
theorem dX2_could_96 : decode cX2_could 96 = .ok (.iload_n 2, 1) := dk_28 (dk_at dksX2_could_4 3 rfl rfl)
theorem dX2_could_97 : decode cX2_could 97 = .ok (.iconst 1, 1) := dk_4 (dk_at dksX2_could_4 4 rfl rfl)
theorem dX2_could_98 : decode cX2_could 98 = .ok (.if_icmp .ne 8, 3) := dk_160 0 8 (dk_at dksX2_could_4 5 rfl rfl)
theorem dX2_could_101 : decode cX2_could 101 = .ok (.iload 4, 2) := dk_21 4 (dk_at dksX2_could_4 8 rfl rfl)
theorem dX2_could_103 : decode cX2_could 103 = .ok (.goto 5, 3) := dk_167 0 5 (dk_at dksX2_could_4 10 rfl rfl)
theorem dX2_could_106 : decode cX2_could 106 = .ok (.iload 5, 2) := dk_21 5 (dk_at dksX2_could_4 13 rfl rfl)
theorem dX2_could_108 : decode cX2_could 108 = .ok (.ireturn, 1) := dk_172 (dk_at dksX2_could_4 15 rfl rfl)
abbrev cX2_canBe : ByteArray := prog_20_method_117_code
def yX2_canBe : MethodName := ⟨RX2, "canBe", "(II)Z"⟩
def dkwX2_canBe_2 : List UInt8 := [184, 0, 69, 154, 0, 5, 3, 172, 132, 3, 3, 167, 255, 200, 4, 172]
abbrev dktX2_canBe_2 : List UInt8 := dkwX2_canBe_2 ++ []
def dkwX2_canBe_1 : List UInt8 := [46, 42, 180, 0, 7, 29, 4, 96, 46, 184, 1, 153, 42, 180, 0, 7, 29, 5, 96, 46, 100, 28, 116, 28]
abbrev dktX2_canBe_1 : List UInt8 := dkwX2_canBe_1 ++ dktX2_canBe_2
def dkwX2_canBe_0 : List UInt8 := [16, 103, 62, 29, 16, 103, 6, 42, 180, 0, 7, 7, 46, 104, 96, 162, 0, 47, 27, 42, 180, 0, 7, 29]
abbrev dktX2_canBe_0 : List UInt8 := dkwX2_canBe_0 ++ dktX2_canBe_1
theorem dksX2_canBe_0 : cX2_canBe.data.toList.drop 0 = dktX2_canBe_0 := by decide +kernel
theorem dksX2_canBe_1 : cX2_canBe.data.toList.drop 24 = dktX2_canBe_1 := dk_seg dksX2_canBe_0 24 rfl rfl
theorem dksX2_canBe_2 : cX2_canBe.data.toList.drop 48 = dktX2_canBe_2 := dk_seg dksX2_canBe_1 24 rfl rfl
theorem dX2_canBe_0 : decode cX2_canBe 0 = .ok (.bipush 103, 2) := dk_16 103 (dk_at dksX2_canBe_0 0 rfl rfl)
theorem dX2_canBe_2 : decode cX2_canBe 2 = .ok (.istore_n 3, 1) := dk_62 (dk_at dksX2_canBe_0 2 rfl rfl)
theorem dX2_canBe_3 : decode cX2_canBe 3 = .ok (.iload_n 3, 1) := dk_29 (dk_at dksX2_canBe_0 3 rfl rfl)
theorem dX2_canBe_4 : decode cX2_canBe 4 = .ok (.bipush 103, 2) := dk_16 103 (dk_at dksX2_canBe_0 4 rfl rfl)
theorem dX2_canBe_6 : decode cX2_canBe 6 = .ok (.iconst 3, 1) := dk_6 (dk_at dksX2_canBe_0 6 rfl rfl)
theorem dX2_canBe_7 : decode cX2_canBe 7 = .ok (.aload_n 0, 1) := dk_42 (dk_at dksX2_canBe_0 7 rfl rfl)
theorem dX2_canBe_8 : decode cX2_canBe 8 = .ok (.getfield 7, 3) := dk_180 0 7 (dk_at dksX2_canBe_0 8 rfl rfl)
theorem dX2_canBe_11 : decode cX2_canBe 11 = .ok (.iconst 4, 1) := dk_7 (dk_at dksX2_canBe_0 11 rfl rfl)
theorem dX2_canBe_12 : decode cX2_canBe 12 = .ok (.iaload, 1) := dk_46 (dk_at dksX2_canBe_0 12 rfl rfl)
theorem dX2_canBe_13 : decode cX2_canBe 13 = .ok (.imul, 1) := dk_104 (dk_at dksX2_canBe_0 13 rfl rfl)
theorem dX2_canBe_14 : decode cX2_canBe 14 = .ok (.iadd, 1) := dk_96 (dk_at dksX2_canBe_0 14 rfl rfl)
theorem dX2_canBe_15 : decode cX2_canBe 15 = .ok (.if_icmp .ge 47, 3) := dk_162 0 47 (dk_at dksX2_canBe_0 15 rfl rfl)
theorem dX2_canBe_18 : decode cX2_canBe 18 = .ok (.iload_n 1, 1) := dk_27 (dk_at dksX2_canBe_0 18 rfl rfl)
theorem dX2_canBe_19 : decode cX2_canBe 19 = .ok (.aload_n 0, 1) := dk_42 (dk_at dksX2_canBe_0 19 rfl rfl)
theorem dX2_canBe_20 : decode cX2_canBe 20 = .ok (.getfield 7, 3) := dk_180 0 7 (dk_at dksX2_canBe_0 20 rfl rfl)
theorem dX2_canBe_23 : decode cX2_canBe 23 = .ok (.iload_n 3, 1) := dk_29 (dk_at dksX2_canBe_0 23 rfl rfl)
theorem dX2_canBe_24 : decode cX2_canBe 24 = .ok (.iaload, 1) := dk_46 (dk_at dksX2_canBe_1 0 rfl rfl)
theorem dX2_canBe_25 : decode cX2_canBe 25 = .ok (.aload_n 0, 1) := dk_42 (dk_at dksX2_canBe_1 1 rfl rfl)
theorem dX2_canBe_26 : decode cX2_canBe 26 = .ok (.getfield 7, 3) := dk_180 0 7 (dk_at dksX2_canBe_1 2 rfl rfl)
theorem dX2_canBe_29 : decode cX2_canBe 29 = .ok (.iload_n 3, 1) := dk_29 (dk_at dksX2_canBe_1 5 rfl rfl)
theorem dX2_canBe_30 : decode cX2_canBe 30 = .ok (.iconst 1, 1) := dk_4 (dk_at dksX2_canBe_1 6 rfl rfl)
theorem dX2_canBe_31 : decode cX2_canBe 31 = .ok (.iadd, 1) := dk_96 (dk_at dksX2_canBe_1 7 rfl rfl)
theorem dX2_canBe_32 : decode cX2_canBe 32 = .ok (.iaload, 1) := dk_46 (dk_at dksX2_canBe_1 8 rfl rfl)
theorem dX2_canBe_33 : decode cX2_canBe 33 = .ok (.invokestatic 409, 3) := dk_184 1 153 (dk_at dksX2_canBe_1 9 rfl rfl)
theorem dX2_canBe_36 : decode cX2_canBe 36 = .ok (.aload_n 0, 1) := dk_42 (dk_at dksX2_canBe_1 12 rfl rfl)
theorem dX2_canBe_37 : decode cX2_canBe 37 = .ok (.getfield 7, 3) := dk_180 0 7 (dk_at dksX2_canBe_1 13 rfl rfl)
theorem dX2_canBe_40 : decode cX2_canBe 40 = .ok (.iload_n 3, 1) := dk_29 (dk_at dksX2_canBe_1 16 rfl rfl)
theorem dX2_canBe_41 : decode cX2_canBe 41 = .ok (.iconst 2, 1) := dk_5 (dk_at dksX2_canBe_1 17 rfl rfl)
theorem dX2_canBe_42 : decode cX2_canBe 42 = .ok (.iadd, 1) := dk_96 (dk_at dksX2_canBe_1 18 rfl rfl)
theorem dX2_canBe_43 : decode cX2_canBe 43 = .ok (.iaload, 1) := dk_46 (dk_at dksX2_canBe_1 19 rfl rfl)
theorem dX2_canBe_44 : decode cX2_canBe 44 = .ok (.isub, 1) := dk_100 (dk_at dksX2_canBe_1 20 rfl rfl)
theorem dX2_canBe_45 : decode cX2_canBe 45 = .ok (.iload_n 2, 1) := dk_28 (dk_at dksX2_canBe_1 21 rfl rfl)
theorem dX2_canBe_46 : decode cX2_canBe 46 = .ok (.ineg, 1) := dk_116 (dk_at dksX2_canBe_1 22 rfl rfl)
theorem dX2_canBe_47 : decode cX2_canBe 47 = .ok (.iload_n 2, 1) := dk_28 (dk_at dksX2_canBe_1 23 rfl rfl)
theorem dX2_canBe_48 : decode cX2_canBe 48 = .ok (.invokestatic 69, 3) := dk_184 0 69 (dk_at dksX2_canBe_2 0 rfl rfl)
theorem dX2_canBe_51 : decode cX2_canBe 51 = .ok (.ifCond .ne 5, 3) := dk_154 0 5 (dk_at dksX2_canBe_2 3 rfl rfl)
theorem dX2_canBe_54 : decode cX2_canBe 54 = .ok (.iconst 0, 1) := dk_3 (dk_at dksX2_canBe_2 6 rfl rfl)
theorem dX2_canBe_55 : decode cX2_canBe 55 = .ok (.ireturn, 1) := dk_172 (dk_at dksX2_canBe_2 7 rfl rfl)
theorem dX2_canBe_56 : decode cX2_canBe 56 = .ok (.iinc 3 3, 3) := dk_132 3 3 (dk_at dksX2_canBe_2 8 rfl rfl)
theorem dX2_canBe_59 : decode cX2_canBe 59 = .ok (.goto (-56), 3) := dk_167 255 200 (dk_at dksX2_canBe_2 11 rfl rfl)
theorem dX2_canBe_62 : decode cX2_canBe 62 = .ok (.iconst 1, 1) := dk_4 (dk_at dksX2_canBe_2 14 rfl rfl)
theorem dX2_canBe_63 : decode cX2_canBe 63 = .ok (.ireturn, 1) := dk_172 (dk_at dksX2_canBe_2 15 rfl rfl)
abbrev cX2_manyIn : ByteArray := prog_20_method_116_code
def yX2_manyIn : MethodName := ⟨RX2, "manyIn", "(III)I"⟩
def dkwX2_manyIn_0 : List UInt8 := [26, 27, 122, 4, 28, 120, 4, 100, 126, 184, 1, 150, 172]
abbrev dktX2_manyIn_0 : List UInt8 := dkwX2_manyIn_0 ++ []
theorem dksX2_manyIn_0 : cX2_manyIn.data.toList.drop 0 = dktX2_manyIn_0 := by decide +kernel
theorem dX2_manyIn_0 : decode cX2_manyIn 0 = .ok (.iload_n 0, 1) := dk_26 (dk_at dksX2_manyIn_0 0 rfl rfl)
theorem dX2_manyIn_1 : decode cX2_manyIn 1 = .ok (.iload_n 1, 1) := dk_27 (dk_at dksX2_manyIn_0 1 rfl rfl)
theorem dX2_manyIn_2 : decode cX2_manyIn 2 = .ok (.ishr, 1) := dk_122 (dk_at dksX2_manyIn_0 2 rfl rfl)
theorem dX2_manyIn_3 : decode cX2_manyIn 3 = .ok (.iconst 1, 1) := dk_4 (dk_at dksX2_manyIn_0 3 rfl rfl)
theorem dX2_manyIn_4 : decode cX2_manyIn 4 = .ok (.iload_n 2, 1) := dk_28 (dk_at dksX2_manyIn_0 4 rfl rfl)
theorem dX2_manyIn_5 : decode cX2_manyIn 5 = .ok (.ishl, 1) := dk_120 (dk_at dksX2_manyIn_0 5 rfl rfl)
theorem dX2_manyIn_6 : decode cX2_manyIn 6 = .ok (.iconst 1, 1) := dk_4 (dk_at dksX2_manyIn_0 6 rfl rfl)
theorem dX2_manyIn_7 : decode cX2_manyIn 7 = .ok (.isub, 1) := dk_100 (dk_at dksX2_manyIn_0 7 rfl rfl)
theorem dX2_manyIn_8 : decode cX2_manyIn 8 = .ok (.iand, 1) := dk_126 (dk_at dksX2_manyIn_0 8 rfl rfl)
theorem dX2_manyIn_9 : decode cX2_manyIn 9 = .ok (.invokestatic 406, 3) := dk_184 1 150 (dk_at dksX2_manyIn_0 9 rfl rfl)
theorem dX2_manyIn_12 : decode cX2_manyIn 12 = .ok (.ireturn, 1) := dk_172 (dk_at dksX2_manyIn_0 12 rfl rfl)
abbrev cX2_bits : ByteArray := prog_20_method_6_code
def yX2_bits : MethodName := ⟨RX2, "bits", "(I)I"⟩
def dkwX2_bits_0 : List UInt8 := [3, 60, 26, 61, 28, 153, 0, 15, 132, 1, 1, 28, 28, 4, 100, 126, 61, 167, 255, 243, 27, 172]
abbrev dktX2_bits_0 : List UInt8 := dkwX2_bits_0 ++ []
theorem dksX2_bits_0 : cX2_bits.data.toList.drop 0 = dktX2_bits_0 := by decide +kernel
theorem dX2_bits_0 : decode cX2_bits 0 = .ok (.iconst 0, 1) := dk_3 (dk_at dksX2_bits_0 0 rfl rfl)
theorem dX2_bits_1 : decode cX2_bits 1 = .ok (.istore_n 1, 1) := dk_60 (dk_at dksX2_bits_0 1 rfl rfl)
theorem dX2_bits_2 : decode cX2_bits 2 = .ok (.iload_n 0, 1) := dk_26 (dk_at dksX2_bits_0 2 rfl rfl)
theorem dX2_bits_3 : decode cX2_bits 3 = .ok (.istore_n 2, 1) := dk_61 (dk_at dksX2_bits_0 3 rfl rfl)
theorem dX2_bits_4 : decode cX2_bits 4 = .ok (.iload_n 2, 1) := dk_28 (dk_at dksX2_bits_0 4 rfl rfl)
theorem dX2_bits_5 : decode cX2_bits 5 = .ok (.ifCond .eq 15, 3) := dk_153 0 15 (dk_at dksX2_bits_0 5 rfl rfl)
theorem dX2_bits_8 : decode cX2_bits 8 = .ok (.iinc 1 1, 3) := dk_132 1 1 (dk_at dksX2_bits_0 8 rfl rfl)
theorem dX2_bits_11 : decode cX2_bits 11 = .ok (.iload_n 2, 1) := dk_28 (dk_at dksX2_bits_0 11 rfl rfl)
theorem dX2_bits_12 : decode cX2_bits 12 = .ok (.iload_n 2, 1) := dk_28 (dk_at dksX2_bits_0 12 rfl rfl)
theorem dX2_bits_13 : decode cX2_bits 13 = .ok (.iconst 1, 1) := dk_4 (dk_at dksX2_bits_0 13 rfl rfl)
theorem dX2_bits_14 : decode cX2_bits 14 = .ok (.isub, 1) := dk_100 (dk_at dksX2_bits_0 14 rfl rfl)
theorem dX2_bits_15 : decode cX2_bits 15 = .ok (.iand, 1) := dk_126 (dk_at dksX2_bits_0 15 rfl rfl)
theorem dX2_bits_16 : decode cX2_bits 16 = .ok (.istore_n 2, 1) := dk_61 (dk_at dksX2_bits_0 16 rfl rfl)
theorem dX2_bits_17 : decode cX2_bits 17 = .ok (.goto (-13), 3) := dk_167 255 243 (dk_at dksX2_bits_0 17 rfl rfl)
theorem dX2_bits_20 : decode cX2_bits 20 = .ok (.iload_n 1, 1) := dk_27 (dk_at dksX2_bits_0 20 rfl rfl)
theorem dX2_bits_21 : decode cX2_bits 21 = .ok (.ireturn, 1) := dk_172 (dk_at dksX2_bits_0 21 rfl rfl)
abbrev cX2_ask : ByteArray := prog_20_method_120_code
def yX2_ask : MethodName := ⟨RX2, "ask", "(I)I"⟩
def dkwX2_ask_5 : List UInt8 := [16, 100, 21, 5, 104, 21, 6, 96, 62, 132, 6, 1, 167, 255, 210, 132, 5, 1, 167, 255, 189, 29, 172]
abbrev dktX2_ask_5 : List UInt8 := dkwX2_ask_5 ++ []
def dkwX2_ask_4 : List UInt8 := [21, 5, 21, 6, 182, 1, 160, 54, 7, 21, 7, 21, 4, 161, 0, 6, 167, 0, 16, 21, 7, 54, 4]
abbrev dktX2_ask_4 : List UInt8 := dkwX2_ask_4 ++ dktX2_ask_5
def dkwX2_ask_3 : List UInt8 := [16, 12, 162, 0, 66, 28, 4, 164, 0, 61, 4, 54, 6, 21, 6, 16, 12, 21, 5, 100, 163, 0, 42, 42]
abbrev dktX2_ask_3 : List UInt8 := dkwX2_ask_3 ++ dktX2_ask_4
def dkwX2_ask_2 : List UInt8 := [167, 0, 4, 3, 96, 61, 132, 3, 1, 167, 255, 217, 2, 62, 19, 1, 159, 54, 4, 3, 54, 5, 21, 5]
abbrev dktX2_ask_2 : List UInt8 := dkwX2_ask_2 ++ dktX2_ask_3
def dkwX2_ask_1 : List UInt8 := [180, 0, 56, 29, 42, 29, 27, 182, 1, 156, 84, 28, 42, 180, 0, 56, 29, 51, 153, 0, 7, 4]
abbrev dktX2_ask_1 : List UInt8 := dkwX2_ask_1 ++ dktX2_ask_2
def dkwX2_ask_0 : List UInt8 := [27, 3, 5, 184, 0, 69, 154, 0, 5, 2, 172, 3, 61, 3, 62, 29, 17, 16, 0, 162, 0, 38, 42]
abbrev dktX2_ask_0 : List UInt8 := dkwX2_ask_0 ++ dktX2_ask_1
theorem dksX2_ask_0 : cX2_ask.data.toList.drop 0 = dktX2_ask_0 := by decide +kernel
theorem dksX2_ask_1 : cX2_ask.data.toList.drop 23 = dktX2_ask_1 := dk_seg dksX2_ask_0 23 rfl rfl
theorem dksX2_ask_2 : cX2_ask.data.toList.drop 45 = dktX2_ask_2 := dk_seg dksX2_ask_1 22 rfl rfl
theorem dksX2_ask_3 : cX2_ask.data.toList.drop 69 = dktX2_ask_3 := dk_seg dksX2_ask_2 24 rfl rfl
theorem dksX2_ask_4 : cX2_ask.data.toList.drop 93 = dktX2_ask_4 := dk_seg dksX2_ask_3 24 rfl rfl
theorem dksX2_ask_5 : cX2_ask.data.toList.drop 116 = dktX2_ask_5 := dk_seg dksX2_ask_4 23 rfl rfl
theorem dX2_ask_0 : decode cX2_ask 0 = .ok (.iload_n 1, 1) := dk_27 (dk_at dksX2_ask_0 0 rfl rfl)
theorem dX2_ask_1 : decode cX2_ask 1 = .ok (.iconst 0, 1) := dk_3 (dk_at dksX2_ask_0 1 rfl rfl)
theorem dX2_ask_2 : decode cX2_ask 2 = .ok (.iconst 2, 1) := dk_5 (dk_at dksX2_ask_0 2 rfl rfl)
theorem dX2_ask_3 : decode cX2_ask 3 = .ok (.invokestatic 69, 3) := dk_184 0 69 (dk_at dksX2_ask_0 3 rfl rfl)
theorem dX2_ask_6 : decode cX2_ask 6 = .ok (.ifCond .ne 5, 3) := dk_154 0 5 (dk_at dksX2_ask_0 6 rfl rfl)
theorem dX2_ask_9 : decode cX2_ask 9 = .ok (.iconst (-1), 1) := dk_2 (dk_at dksX2_ask_0 9 rfl rfl)
theorem dX2_ask_10 : decode cX2_ask 10 = .ok (.ireturn, 1) := dk_172 (dk_at dksX2_ask_0 10 rfl rfl)
theorem dX2_ask_11 : decode cX2_ask 11 = .ok (.iconst 0, 1) := dk_3 (dk_at dksX2_ask_0 11 rfl rfl)
theorem dX2_ask_12 : decode cX2_ask 12 = .ok (.istore_n 2, 1) := dk_61 (dk_at dksX2_ask_0 12 rfl rfl)
theorem dX2_ask_13 : decode cX2_ask 13 = .ok (.iconst 0, 1) := dk_3 (dk_at dksX2_ask_0 13 rfl rfl)
theorem dX2_ask_14 : decode cX2_ask 14 = .ok (.istore_n 3, 1) := dk_62 (dk_at dksX2_ask_0 14 rfl rfl)
theorem dX2_ask_15 : decode cX2_ask 15 = .ok (.iload_n 3, 1) := dk_29 (dk_at dksX2_ask_0 15 rfl rfl)
theorem dX2_ask_16 : decode cX2_ask 16 = .ok (.sipush 4096, 3) := dk_17 16 0 (dk_at dksX2_ask_0 16 rfl rfl)
theorem dX2_ask_19 : decode cX2_ask 19 = .ok (.if_icmp .ge 38, 3) := dk_162 0 38 (dk_at dksX2_ask_0 19 rfl rfl)
theorem dX2_ask_22 : decode cX2_ask 22 = .ok (.aload_n 0, 1) := dk_42 (dk_at dksX2_ask_0 22 rfl rfl)
theorem dX2_ask_23 : decode cX2_ask 23 = .ok (.getfield 56, 3) := dk_180 0 56 (dk_at dksX2_ask_1 0 rfl rfl)
theorem dX2_ask_26 : decode cX2_ask 26 = .ok (.iload_n 3, 1) := dk_29 (dk_at dksX2_ask_1 3 rfl rfl)
theorem dX2_ask_27 : decode cX2_ask 27 = .ok (.aload_n 0, 1) := dk_42 (dk_at dksX2_ask_1 4 rfl rfl)
theorem dX2_ask_28 : decode cX2_ask 28 = .ok (.iload_n 3, 1) := dk_29 (dk_at dksX2_ask_1 5 rfl rfl)
theorem dX2_ask_29 : decode cX2_ask 29 = .ok (.iload_n 1, 1) := dk_27 (dk_at dksX2_ask_1 6 rfl rfl)
theorem dX2_ask_30 : decode cX2_ask 30 = .ok (.invokevirtual 412, 3) := dk_182 1 156 (dk_at dksX2_ask_1 7 rfl rfl)
theorem dX2_ask_33 : decode cX2_ask 33 = .ok (.bastore, 1) := dk_84 (dk_at dksX2_ask_1 10 rfl rfl)
theorem dX2_ask_34 : decode cX2_ask 34 = .ok (.iload_n 2, 1) := dk_28 (dk_at dksX2_ask_1 11 rfl rfl)
theorem dX2_ask_35 : decode cX2_ask 35 = .ok (.aload_n 0, 1) := dk_42 (dk_at dksX2_ask_1 12 rfl rfl)
theorem dX2_ask_36 : decode cX2_ask 36 = .ok (.getfield 56, 3) := dk_180 0 56 (dk_at dksX2_ask_1 13 rfl rfl)
theorem dX2_ask_39 : decode cX2_ask 39 = .ok (.iload_n 3, 1) := dk_29 (dk_at dksX2_ask_1 16 rfl rfl)
theorem dX2_ask_40 : decode cX2_ask 40 = .ok (.baload, 1) := dk_51 (dk_at dksX2_ask_1 17 rfl rfl)
theorem dX2_ask_41 : decode cX2_ask 41 = .ok (.ifCond .eq 7, 3) := dk_153 0 7 (dk_at dksX2_ask_1 18 rfl rfl)
theorem dX2_ask_44 : decode cX2_ask 44 = .ok (.iconst 1, 1) := dk_4 (dk_at dksX2_ask_1 21 rfl rfl)
theorem dX2_ask_45 : decode cX2_ask 45 = .ok (.goto 4, 3) := dk_167 0 4 (dk_at dksX2_ask_2 0 rfl rfl)
theorem dX2_ask_48 : decode cX2_ask 48 = .ok (.iconst 0, 1) := dk_3 (dk_at dksX2_ask_2 3 rfl rfl)
theorem dX2_ask_49 : decode cX2_ask 49 = .ok (.iadd, 1) := dk_96 (dk_at dksX2_ask_2 4 rfl rfl)
theorem dX2_ask_50 : decode cX2_ask 50 = .ok (.istore_n 2, 1) := dk_61 (dk_at dksX2_ask_2 5 rfl rfl)
theorem dX2_ask_51 : decode cX2_ask 51 = .ok (.iinc 3 1, 3) := dk_132 3 1 (dk_at dksX2_ask_2 6 rfl rfl)
theorem dX2_ask_54 : decode cX2_ask 54 = .ok (.goto (-39), 3) := dk_167 255 217 (dk_at dksX2_ask_2 9 rfl rfl)
theorem dX2_ask_57 : decode cX2_ask 57 = .ok (.iconst (-1), 1) := dk_2 (dk_at dksX2_ask_2 12 rfl rfl)
theorem dX2_ask_58 : decode cX2_ask 58 = .ok (.istore_n 3, 1) := dk_62 (dk_at dksX2_ask_2 13 rfl rfl)
theorem dX2_ask_59 : decode cX2_ask 59 = .ok (.ldc_w 415, 3) := dk_19 1 159 (dk_at dksX2_ask_2 14 rfl rfl)
theorem dX2_ask_62 : decode cX2_ask 62 = .ok (.istore 4, 2) := dk_54 4 (dk_at dksX2_ask_2 17 rfl rfl)
theorem dX2_ask_64 : decode cX2_ask 64 = .ok (.iconst 0, 1) := dk_3 (dk_at dksX2_ask_2 19 rfl rfl)
theorem dX2_ask_65 : decode cX2_ask 65 = .ok (.istore 5, 2) := dk_54 5 (dk_at dksX2_ask_2 20 rfl rfl)
theorem dX2_ask_67 : decode cX2_ask 67 = .ok (.iload 5, 2) := dk_21 5 (dk_at dksX2_ask_2 22 rfl rfl)
theorem dX2_ask_69 : decode cX2_ask 69 = .ok (.bipush 12, 2) := dk_16 12 (dk_at dksX2_ask_3 0 rfl rfl)
theorem dX2_ask_71 : decode cX2_ask 71 = .ok (.if_icmp .ge 66, 3) := dk_162 0 66 (dk_at dksX2_ask_3 2 rfl rfl)
theorem dX2_ask_74 : decode cX2_ask 74 = .ok (.iload_n 2, 1) := dk_28 (dk_at dksX2_ask_3 5 rfl rfl)
theorem dX2_ask_75 : decode cX2_ask 75 = .ok (.iconst 1, 1) := dk_4 (dk_at dksX2_ask_3 6 rfl rfl)
theorem dX2_ask_76 : decode cX2_ask 76 = .ok (.if_icmp .le 61, 3) := dk_164 0 61 (dk_at dksX2_ask_3 7 rfl rfl)
theorem dX2_ask_79 : decode cX2_ask 79 = .ok (.iconst 1, 1) := dk_4 (dk_at dksX2_ask_3 10 rfl rfl)
theorem dX2_ask_80 : decode cX2_ask 80 = .ok (.istore 6, 2) := dk_54 6 (dk_at dksX2_ask_3 11 rfl rfl)
theorem dX2_ask_82 : decode cX2_ask 82 = .ok (.iload 6, 2) := dk_21 6 (dk_at dksX2_ask_3 13 rfl rfl)
theorem dX2_ask_84 : decode cX2_ask 84 = .ok (.bipush 12, 2) := dk_16 12 (dk_at dksX2_ask_3 15 rfl rfl)
theorem dX2_ask_86 : decode cX2_ask 86 = .ok (.iload 5, 2) := dk_21 5 (dk_at dksX2_ask_3 17 rfl rfl)
theorem dX2_ask_88 : decode cX2_ask 88 = .ok (.isub, 1) := dk_100 (dk_at dksX2_ask_3 19 rfl rfl)
theorem dX2_ask_89 : decode cX2_ask 89 = .ok (.if_icmp .gt 42, 3) := dk_163 0 42 (dk_at dksX2_ask_3 20 rfl rfl)
theorem dX2_ask_92 : decode cX2_ask 92 = .ok (.aload_n 0, 1) := dk_42 (dk_at dksX2_ask_3 23 rfl rfl)
theorem dX2_ask_93 : decode cX2_ask 93 = .ok (.iload 5, 2) := dk_21 5 (dk_at dksX2_ask_4 0 rfl rfl)
theorem dX2_ask_95 : decode cX2_ask 95 = .ok (.iload 6, 2) := dk_21 6 (dk_at dksX2_ask_4 2 rfl rfl)
theorem dX2_ask_97 : decode cX2_ask 97 = .ok (.invokevirtual 416, 3) := dk_182 1 160 (dk_at dksX2_ask_4 4 rfl rfl)
theorem dX2_ask_100 : decode cX2_ask 100 = .ok (.istore 7, 2) := dk_54 7 (dk_at dksX2_ask_4 7 rfl rfl)
theorem dX2_ask_102 : decode cX2_ask 102 = .ok (.iload 7, 2) := dk_21 7 (dk_at dksX2_ask_4 9 rfl rfl)
theorem dX2_ask_104 : decode cX2_ask 104 = .ok (.iload 4, 2) := dk_21 4 (dk_at dksX2_ask_4 11 rfl rfl)
theorem dX2_ask_106 : decode cX2_ask 106 = .ok (.if_icmp .lt 6, 3) := dk_161 0 6 (dk_at dksX2_ask_4 13 rfl rfl)
theorem dX2_ask_109 : decode cX2_ask 109 = .ok (.goto 16, 3) := dk_167 0 16 (dk_at dksX2_ask_4 16 rfl rfl)
theorem dX2_ask_112 : decode cX2_ask 112 = .ok (.iload 7, 2) := dk_21 7 (dk_at dksX2_ask_4 19 rfl rfl)
theorem dX2_ask_114 : decode cX2_ask 114 = .ok (.istore 4, 2) := dk_54 4 (dk_at dksX2_ask_4 21 rfl rfl)
theorem dX2_ask_116 : decode cX2_ask 116 = .ok (.bipush 100, 2) := dk_16 100 (dk_at dksX2_ask_5 0 rfl rfl)
theorem dX2_ask_118 : decode cX2_ask 118 = .ok (.iload 5, 2) := dk_21 5 (dk_at dksX2_ask_5 2 rfl rfl)
theorem dX2_ask_120 : decode cX2_ask 120 = .ok (.imul, 1) := dk_104 (dk_at dksX2_ask_5 4 rfl rfl)
theorem dX2_ask_121 : decode cX2_ask 121 = .ok (.iload 6, 2) := dk_21 6 (dk_at dksX2_ask_5 5 rfl rfl)
theorem dX2_ask_123 : decode cX2_ask 123 = .ok (.iadd, 1) := dk_96 (dk_at dksX2_ask_5 7 rfl rfl)
theorem dX2_ask_124 : decode cX2_ask 124 = .ok (.istore_n 3, 1) := dk_62 (dk_at dksX2_ask_5 8 rfl rfl)
theorem dX2_ask_125 : decode cX2_ask 125 = .ok (.iinc 6 1, 3) := dk_132 6 1 (dk_at dksX2_ask_5 9 rfl rfl)
theorem dX2_ask_128 : decode cX2_ask 128 = .ok (.goto (-46), 3) := dk_167 255 210 (dk_at dksX2_ask_5 12 rfl rfl)
theorem dX2_ask_131 : decode cX2_ask 131 = .ok (.iinc 5 1, 3) := dk_132 5 1 (dk_at dksX2_ask_5 15 rfl rfl)
theorem dX2_ask_134 : decode cX2_ask 134 = .ok (.goto (-67), 3) := dk_167 255 189 (dk_at dksX2_ask_5 18 rfl rfl)
theorem dX2_ask_137 : decode cX2_ask 137 = .ok (.iload_n 3, 1) := dk_29 (dk_at dksX2_ask_5 21 rfl rfl)
theorem dX2_ask_138 : decode cX2_ask 138 = .ok (.ireturn, 1) := dk_172 (dk_at dksX2_ask_5 22 rfl rfl)
abbrev cX2_mostLeft : ByteArray := prog_20_method_119_code
def yX2_mostLeft : MethodName := ⟨RX2, "mostLeft", "(II)I"⟩
def dkwX2_mostLeft_4 : List UInt8 := [29, 62, 132, 4, 1, 167, 255, 223, 29, 172]
abbrev dktX2_mostLeft_4 : List UInt8 := dkwX2_mostLeft_4 ++ []
def dkwX2_mostLeft_3 : List UInt8 := [162, 0, 32, 42, 180, 0, 59, 21, 4, 46, 29, 164, 0, 13, 42, 180, 0, 59, 21, 4, 46, 167, 0, 4]
abbrev dktX2_mostLeft_3 : List UInt8 := dkwX2_mostLeft_3 ++ dktX2_mostLeft_4
def dkwX2_mostLeft_2 : List UInt8 := [184, 1, 153, 92, 46, 4, 96, 79, 132, 3, 1, 167, 255, 222, 3, 62, 3, 54, 4, 21, 4, 16, 13]
abbrev dktX2_mostLeft_2 : List UInt8 := dkwX2_mostLeft_2 ++ dktX2_mostLeft_3
def dkwX2_mostLeft_1 : List UInt8 := [17, 16, 0, 162, 0, 33, 42, 180, 0, 56, 29, 51, 153, 0, 18, 42, 180, 0, 59, 29, 27, 28]
abbrev dktX2_mostLeft_1 : List UInt8 := dkwX2_mostLeft_1 ++ dktX2_mostLeft_2
def dkwX2_mostLeft_0 : List UInt8 := [3, 62, 29, 16, 13, 162, 0, 16, 42, 180, 0, 59, 29, 3, 79, 132, 3, 1, 167, 255, 240, 3, 62, 29]
abbrev dktX2_mostLeft_0 : List UInt8 := dkwX2_mostLeft_0 ++ dktX2_mostLeft_1
theorem dksX2_mostLeft_0 : cX2_mostLeft.data.toList.drop 0 = dktX2_mostLeft_0 := by decide +kernel
theorem dksX2_mostLeft_1 : cX2_mostLeft.data.toList.drop 24 = dktX2_mostLeft_1 := dk_seg dksX2_mostLeft_0 24 rfl rfl
theorem dksX2_mostLeft_2 : cX2_mostLeft.data.toList.drop 46 = dktX2_mostLeft_2 := dk_seg dksX2_mostLeft_1 22 rfl rfl
theorem dksX2_mostLeft_3 : cX2_mostLeft.data.toList.drop 69 = dktX2_mostLeft_3 := dk_seg dksX2_mostLeft_2 23 rfl rfl
theorem dksX2_mostLeft_4 : cX2_mostLeft.data.toList.drop 93 = dktX2_mostLeft_4 := dk_seg dksX2_mostLeft_3 24 rfl rfl
theorem dX2_mostLeft_0 : decode cX2_mostLeft 0 = .ok (.iconst 0, 1) := dk_3 (dk_at dksX2_mostLeft_0 0 rfl rfl)
theorem dX2_mostLeft_1 : decode cX2_mostLeft 1 = .ok (.istore_n 3, 1) := dk_62 (dk_at dksX2_mostLeft_0 1 rfl rfl)
theorem dX2_mostLeft_2 : decode cX2_mostLeft 2 = .ok (.iload_n 3, 1) := dk_29 (dk_at dksX2_mostLeft_0 2 rfl rfl)
theorem dX2_mostLeft_3 : decode cX2_mostLeft 3 = .ok (.bipush 13, 2) := dk_16 13 (dk_at dksX2_mostLeft_0 3 rfl rfl)
theorem dX2_mostLeft_5 : decode cX2_mostLeft 5 = .ok (.if_icmp .ge 16, 3) := dk_162 0 16 (dk_at dksX2_mostLeft_0 5 rfl rfl)
theorem dX2_mostLeft_8 : decode cX2_mostLeft 8 = .ok (.aload_n 0, 1) := dk_42 (dk_at dksX2_mostLeft_0 8 rfl rfl)
theorem dX2_mostLeft_9 : decode cX2_mostLeft 9 = .ok (.getfield 59, 3) := dk_180 0 59 (dk_at dksX2_mostLeft_0 9 rfl rfl)
theorem dX2_mostLeft_12 : decode cX2_mostLeft 12 = .ok (.iload_n 3, 1) := dk_29 (dk_at dksX2_mostLeft_0 12 rfl rfl)
theorem dX2_mostLeft_13 : decode cX2_mostLeft 13 = .ok (.iconst 0, 1) := dk_3 (dk_at dksX2_mostLeft_0 13 rfl rfl)
theorem dX2_mostLeft_14 : decode cX2_mostLeft 14 = .ok (.iastore, 1) := dk_79 (dk_at dksX2_mostLeft_0 14 rfl rfl)
theorem dX2_mostLeft_15 : decode cX2_mostLeft 15 = .ok (.iinc 3 1, 3) := dk_132 3 1 (dk_at dksX2_mostLeft_0 15 rfl rfl)
theorem dX2_mostLeft_18 : decode cX2_mostLeft 18 = .ok (.goto (-16), 3) := dk_167 255 240 (dk_at dksX2_mostLeft_0 18 rfl rfl)
theorem dX2_mostLeft_21 : decode cX2_mostLeft 21 = .ok (.iconst 0, 1) := dk_3 (dk_at dksX2_mostLeft_0 21 rfl rfl)
theorem dX2_mostLeft_22 : decode cX2_mostLeft 22 = .ok (.istore_n 3, 1) := dk_62 (dk_at dksX2_mostLeft_0 22 rfl rfl)
theorem dX2_mostLeft_23 : decode cX2_mostLeft 23 = .ok (.iload_n 3, 1) := dk_29 (dk_at dksX2_mostLeft_0 23 rfl rfl)
theorem dX2_mostLeft_24 : decode cX2_mostLeft 24 = .ok (.sipush 4096, 3) := dk_17 16 0 (dk_at dksX2_mostLeft_1 0 rfl rfl)
theorem dX2_mostLeft_27 : decode cX2_mostLeft 27 = .ok (.if_icmp .ge 33, 3) := dk_162 0 33 (dk_at dksX2_mostLeft_1 3 rfl rfl)
theorem dX2_mostLeft_30 : decode cX2_mostLeft 30 = .ok (.aload_n 0, 1) := dk_42 (dk_at dksX2_mostLeft_1 6 rfl rfl)
theorem dX2_mostLeft_31 : decode cX2_mostLeft 31 = .ok (.getfield 56, 3) := dk_180 0 56 (dk_at dksX2_mostLeft_1 7 rfl rfl)
theorem dX2_mostLeft_34 : decode cX2_mostLeft 34 = .ok (.iload_n 3, 1) := dk_29 (dk_at dksX2_mostLeft_1 10 rfl rfl)
theorem dX2_mostLeft_35 : decode cX2_mostLeft 35 = .ok (.baload, 1) := dk_51 (dk_at dksX2_mostLeft_1 11 rfl rfl)
theorem dX2_mostLeft_36 : decode cX2_mostLeft 36 = .ok (.ifCond .eq 18, 3) := dk_153 0 18 (dk_at dksX2_mostLeft_1 12 rfl rfl)
theorem dX2_mostLeft_39 : decode cX2_mostLeft 39 = .ok (.aload_n 0, 1) := dk_42 (dk_at dksX2_mostLeft_1 15 rfl rfl)
theorem dX2_mostLeft_40 : decode cX2_mostLeft 40 = .ok (.getfield 59, 3) := dk_180 0 59 (dk_at dksX2_mostLeft_1 16 rfl rfl)
theorem dX2_mostLeft_43 : decode cX2_mostLeft 43 = .ok (.iload_n 3, 1) := dk_29 (dk_at dksX2_mostLeft_1 19 rfl rfl)
theorem dX2_mostLeft_44 : decode cX2_mostLeft 44 = .ok (.iload_n 1, 1) := dk_27 (dk_at dksX2_mostLeft_1 20 rfl rfl)
theorem dX2_mostLeft_45 : decode cX2_mostLeft 45 = .ok (.iload_n 2, 1) := dk_28 (dk_at dksX2_mostLeft_1 21 rfl rfl)
theorem dX2_mostLeft_46 : decode cX2_mostLeft 46 = .ok (.invokestatic 409, 3) := dk_184 1 153 (dk_at dksX2_mostLeft_2 0 rfl rfl)
theorem dX2_mostLeft_49 : decode cX2_mostLeft 49 = .ok (.dup2, 1) := dk_92 (dk_at dksX2_mostLeft_2 3 rfl rfl)
theorem dX2_mostLeft_50 : decode cX2_mostLeft 50 = .ok (.iaload, 1) := dk_46 (dk_at dksX2_mostLeft_2 4 rfl rfl)
theorem dX2_mostLeft_51 : decode cX2_mostLeft 51 = .ok (.iconst 1, 1) := dk_4 (dk_at dksX2_mostLeft_2 5 rfl rfl)
theorem dX2_mostLeft_52 : decode cX2_mostLeft 52 = .ok (.iadd, 1) := dk_96 (dk_at dksX2_mostLeft_2 6 rfl rfl)
theorem dX2_mostLeft_53 : decode cX2_mostLeft 53 = .ok (.iastore, 1) := dk_79 (dk_at dksX2_mostLeft_2 7 rfl rfl)
theorem dX2_mostLeft_54 : decode cX2_mostLeft 54 = .ok (.iinc 3 1, 3) := dk_132 3 1 (dk_at dksX2_mostLeft_2 8 rfl rfl)
theorem dX2_mostLeft_57 : decode cX2_mostLeft 57 = .ok (.goto (-34), 3) := dk_167 255 222 (dk_at dksX2_mostLeft_2 11 rfl rfl)
theorem dX2_mostLeft_60 : decode cX2_mostLeft 60 = .ok (.iconst 0, 1) := dk_3 (dk_at dksX2_mostLeft_2 14 rfl rfl)
theorem dX2_mostLeft_61 : decode cX2_mostLeft 61 = .ok (.istore_n 3, 1) := dk_62 (dk_at dksX2_mostLeft_2 15 rfl rfl)
theorem dX2_mostLeft_62 : decode cX2_mostLeft 62 = .ok (.iconst 0, 1) := dk_3 (dk_at dksX2_mostLeft_2 16 rfl rfl)
theorem dX2_mostLeft_63 : decode cX2_mostLeft 63 = .ok (.istore 4, 2) := dk_54 4 (dk_at dksX2_mostLeft_2 17 rfl rfl)
theorem dX2_mostLeft_65 : decode cX2_mostLeft 65 = .ok (.iload 4, 2) := dk_21 4 (dk_at dksX2_mostLeft_2 19 rfl rfl)
theorem dX2_mostLeft_67 : decode cX2_mostLeft 67 = .ok (.bipush 13, 2) := dk_16 13 (dk_at dksX2_mostLeft_2 21 rfl rfl)
theorem dX2_mostLeft_69 : decode cX2_mostLeft 69 = .ok (.if_icmp .ge 32, 3) := dk_162 0 32 (dk_at dksX2_mostLeft_3 0 rfl rfl)
theorem dX2_mostLeft_72 : decode cX2_mostLeft 72 = .ok (.aload_n 0, 1) := dk_42 (dk_at dksX2_mostLeft_3 3 rfl rfl)
theorem dX2_mostLeft_73 : decode cX2_mostLeft 73 = .ok (.getfield 59, 3) := dk_180 0 59 (dk_at dksX2_mostLeft_3 4 rfl rfl)
theorem dX2_mostLeft_76 : decode cX2_mostLeft 76 = .ok (.iload 4, 2) := dk_21 4 (dk_at dksX2_mostLeft_3 7 rfl rfl)
theorem dX2_mostLeft_78 : decode cX2_mostLeft 78 = .ok (.iaload, 1) := dk_46 (dk_at dksX2_mostLeft_3 9 rfl rfl)
theorem dX2_mostLeft_79 : decode cX2_mostLeft 79 = .ok (.iload_n 3, 1) := dk_29 (dk_at dksX2_mostLeft_3 10 rfl rfl)
theorem dX2_mostLeft_80 : decode cX2_mostLeft 80 = .ok (.if_icmp .le 13, 3) := dk_164 0 13 (dk_at dksX2_mostLeft_3 11 rfl rfl)
theorem dX2_mostLeft_83 : decode cX2_mostLeft 83 = .ok (.aload_n 0, 1) := dk_42 (dk_at dksX2_mostLeft_3 14 rfl rfl)
theorem dX2_mostLeft_84 : decode cX2_mostLeft 84 = .ok (.getfield 59, 3) := dk_180 0 59 (dk_at dksX2_mostLeft_3 15 rfl rfl)
theorem dX2_mostLeft_87 : decode cX2_mostLeft 87 = .ok (.iload 4, 2) := dk_21 4 (dk_at dksX2_mostLeft_3 18 rfl rfl)
theorem dX2_mostLeft_89 : decode cX2_mostLeft 89 = .ok (.iaload, 1) := dk_46 (dk_at dksX2_mostLeft_3 20 rfl rfl)
theorem dX2_mostLeft_90 : decode cX2_mostLeft 90 = .ok (.goto 4, 3) := dk_167 0 4 (dk_at dksX2_mostLeft_3 21 rfl rfl)
theorem dX2_mostLeft_93 : decode cX2_mostLeft 93 = .ok (.iload_n 3, 1) := dk_29 (dk_at dksX2_mostLeft_4 0 rfl rfl)
theorem dX2_mostLeft_94 : decode cX2_mostLeft 94 = .ok (.istore_n 3, 1) := dk_62 (dk_at dksX2_mostLeft_4 1 rfl rfl)
theorem dX2_mostLeft_95 : decode cX2_mostLeft 95 = .ok (.iinc 4 1, 3) := dk_132 4 1 (dk_at dksX2_mostLeft_4 2 rfl rfl)
theorem dX2_mostLeft_98 : decode cX2_mostLeft 98 = .ok (.goto (-33), 3) := dk_167 255 223 (dk_at dksX2_mostLeft_4 5 rfl rfl)
theorem dX2_mostLeft_101 : decode cX2_mostLeft 101 = .ok (.iload_n 3, 1) := dk_29 (dk_at dksX2_mostLeft_4 8 rfl rfl)
theorem dX2_mostLeft_102 : decode cX2_mostLeft 102 = .ok (.ireturn, 1) := dk_172 (dk_at dksX2_mostLeft_4 9 rfl rfl)
abbrev cX2_sings : ByteArray := prog_20_method_122_code
def yX2_sings : MethodName := ⟨RX2, "sings", "(IIZ)I"⟩
def dkwX2_sings_7 : List UInt8 := [167, 0, 14, 42, 180, 0, 62, 16, 30, 27, 104, 28, 96, 46, 172]
abbrev dktX2_sings_7 : List UInt8 := dkwX2_sings_7 ++ []
def dkwX2_sings_6 : List UInt8 := [100, 21, 7, 79, 132, 6, 1, 167, 255, 147, 132, 5, 1, 167, 255, 128, 29, 153, 0, 8, 21, 4]
abbrev dktX2_sings_6 : List UInt8 := dkwX2_sings_6 ++ dktX2_sings_7
def dkwX2_sings_5 : List UInt8 := [54, 4, 132, 8, 1, 167, 255, 206, 42, 180, 0, 62, 16, 30, 21, 6, 104, 21, 6, 96, 21, 5, 96, 4]
abbrev dktX2_sings_5 : List UInt8 := dkwX2_sings_5 ++ dktX2_sings_6
def dkwX2_sings_4 : List UInt8 := [21, 8, 182, 1, 163, 54, 9, 21, 9, 21, 7, 161, 0, 6, 167, 0, 11, 21, 9, 54, 7, 21, 8]
abbrev dktX2_sings_4 : List UInt8 := dkwX2_sings_4 ++ dktX2_sings_5
def dkwX2_sings_3 : List UInt8 := [54, 8, 21, 8, 21, 6, 21, 5, 96, 4, 100, 162, 0, 44, 42, 21, 6, 21, 6, 21, 5, 96, 4, 100]
abbrev dktX2_sings_3 : List UInt8 := dkwX2_sings_3 ++ dktX2_sings_4
def dkwX2_sings_2 : List UInt8 := [163, 0, 104, 21, 5, 4, 160, 0, 7, 3, 167, 0, 6, 19, 1, 159, 54, 7, 2, 54, 4, 21, 6]
abbrev dktX2_sings_2 : List UInt8 := dkwX2_sings_2 ++ dktX2_sings_3
def dkwX2_sings_1 : List UInt8 := [4, 54, 5, 21, 5, 28, 27, 100, 4, 96, 163, 0, 124, 27, 54, 6, 21, 6, 21, 5, 96, 4, 100, 28]
abbrev dktX2_sings_1 : List UInt8 := dkwX2_sings_1 ++ dktX2_sings_2
def dkwX2_sings_0 : List UInt8 := [27, 184, 0, 73, 153, 0, 15, 28, 184, 0, 73, 153, 0, 8, 27, 28, 164, 0, 5, 2, 172, 2, 54, 4]
abbrev dktX2_sings_0 : List UInt8 := dkwX2_sings_0 ++ dktX2_sings_1
theorem dksX2_sings_0 : cX2_sings.data.toList.drop 0 = dktX2_sings_0 := by decide +kernel
theorem dksX2_sings_1 : cX2_sings.data.toList.drop 24 = dktX2_sings_1 := dk_seg dksX2_sings_0 24 rfl rfl
theorem dksX2_sings_2 : cX2_sings.data.toList.drop 48 = dktX2_sings_2 := dk_seg dksX2_sings_1 24 rfl rfl
theorem dksX2_sings_3 : cX2_sings.data.toList.drop 71 = dktX2_sings_3 := dk_seg dksX2_sings_2 23 rfl rfl
theorem dksX2_sings_4 : cX2_sings.data.toList.drop 95 = dktX2_sings_4 := dk_seg dksX2_sings_3 24 rfl rfl
theorem dksX2_sings_5 : cX2_sings.data.toList.drop 118 = dktX2_sings_5 := dk_seg dksX2_sings_4 23 rfl rfl
theorem dksX2_sings_6 : cX2_sings.data.toList.drop 142 = dktX2_sings_6 := dk_seg dksX2_sings_5 24 rfl rfl
theorem dksX2_sings_7 : cX2_sings.data.toList.drop 164 = dktX2_sings_7 := dk_seg dksX2_sings_6 22 rfl rfl
theorem dX2_sings_0 : decode cX2_sings 0 = .ok (.iload_n 1, 1) := dk_27 (dk_at dksX2_sings_0 0 rfl rfl)
theorem dX2_sings_1 : decode cX2_sings 1 = .ok (.invokestatic 73, 3) := dk_184 0 73 (dk_at dksX2_sings_0 1 rfl rfl)
theorem dX2_sings_4 : decode cX2_sings 4 = .ok (.ifCond .eq 15, 3) := dk_153 0 15 (dk_at dksX2_sings_0 4 rfl rfl)
theorem dX2_sings_7 : decode cX2_sings 7 = .ok (.iload_n 2, 1) := dk_28 (dk_at dksX2_sings_0 7 rfl rfl)
theorem dX2_sings_8 : decode cX2_sings 8 = .ok (.invokestatic 73, 3) := dk_184 0 73 (dk_at dksX2_sings_0 8 rfl rfl)
theorem dX2_sings_11 : decode cX2_sings 11 = .ok (.ifCond .eq 8, 3) := dk_153 0 8 (dk_at dksX2_sings_0 11 rfl rfl)
theorem dX2_sings_14 : decode cX2_sings 14 = .ok (.iload_n 1, 1) := dk_27 (dk_at dksX2_sings_0 14 rfl rfl)
theorem dX2_sings_15 : decode cX2_sings 15 = .ok (.iload_n 2, 1) := dk_28 (dk_at dksX2_sings_0 15 rfl rfl)
theorem dX2_sings_16 : decode cX2_sings 16 = .ok (.if_icmp .le 5, 3) := dk_164 0 5 (dk_at dksX2_sings_0 16 rfl rfl)
theorem dX2_sings_19 : decode cX2_sings 19 = .ok (.iconst (-1), 1) := dk_2 (dk_at dksX2_sings_0 19 rfl rfl)
theorem dX2_sings_20 : decode cX2_sings 20 = .ok (.ireturn, 1) := dk_172 (dk_at dksX2_sings_0 20 rfl rfl)
theorem dX2_sings_21 : decode cX2_sings 21 = .ok (.iconst (-1), 1) := dk_2 (dk_at dksX2_sings_0 21 rfl rfl)
theorem dX2_sings_22 : decode cX2_sings 22 = .ok (.istore 4, 2) := dk_54 4 (dk_at dksX2_sings_0 22 rfl rfl)
theorem dX2_sings_24 : decode cX2_sings 24 = .ok (.iconst 1, 1) := dk_4 (dk_at dksX2_sings_1 0 rfl rfl)
theorem dX2_sings_25 : decode cX2_sings 25 = .ok (.istore 5, 2) := dk_54 5 (dk_at dksX2_sings_1 1 rfl rfl)
theorem dX2_sings_27 : decode cX2_sings 27 = .ok (.iload 5, 2) := dk_21 5 (dk_at dksX2_sings_1 3 rfl rfl)
theorem dX2_sings_29 : decode cX2_sings 29 = .ok (.iload_n 2, 1) := dk_28 (dk_at dksX2_sings_1 5 rfl rfl)
theorem dX2_sings_30 : decode cX2_sings 30 = .ok (.iload_n 1, 1) := dk_27 (dk_at dksX2_sings_1 6 rfl rfl)
theorem dX2_sings_31 : decode cX2_sings 31 = .ok (.isub, 1) := dk_100 (dk_at dksX2_sings_1 7 rfl rfl)
theorem dX2_sings_32 : decode cX2_sings 32 = .ok (.iconst 1, 1) := dk_4 (dk_at dksX2_sings_1 8 rfl rfl)
theorem dX2_sings_33 : decode cX2_sings 33 = .ok (.iadd, 1) := dk_96 (dk_at dksX2_sings_1 9 rfl rfl)
theorem dX2_sings_34 : decode cX2_sings 34 = .ok (.if_icmp .gt 124, 3) := dk_163 0 124 (dk_at dksX2_sings_1 10 rfl rfl)
theorem dX2_sings_37 : decode cX2_sings 37 = .ok (.iload_n 1, 1) := dk_27 (dk_at dksX2_sings_1 13 rfl rfl)
theorem dX2_sings_38 : decode cX2_sings 38 = .ok (.istore 6, 2) := dk_54 6 (dk_at dksX2_sings_1 14 rfl rfl)
theorem dX2_sings_40 : decode cX2_sings 40 = .ok (.iload 6, 2) := dk_21 6 (dk_at dksX2_sings_1 16 rfl rfl)
theorem dX2_sings_42 : decode cX2_sings 42 = .ok (.iload 5, 2) := dk_21 5 (dk_at dksX2_sings_1 18 rfl rfl)
theorem dX2_sings_44 : decode cX2_sings 44 = .ok (.iadd, 1) := dk_96 (dk_at dksX2_sings_1 20 rfl rfl)
theorem dX2_sings_45 : decode cX2_sings 45 = .ok (.iconst 1, 1) := dk_4 (dk_at dksX2_sings_1 21 rfl rfl)
theorem dX2_sings_46 : decode cX2_sings 46 = .ok (.isub, 1) := dk_100 (dk_at dksX2_sings_1 22 rfl rfl)
theorem dX2_sings_47 : decode cX2_sings 47 = .ok (.iload_n 2, 1) := dk_28 (dk_at dksX2_sings_1 23 rfl rfl)
theorem dX2_sings_48 : decode cX2_sings 48 = .ok (.if_icmp .gt 104, 3) := dk_163 0 104 (dk_at dksX2_sings_2 0 rfl rfl)
theorem dX2_sings_51 : decode cX2_sings 51 = .ok (.iload 5, 2) := dk_21 5 (dk_at dksX2_sings_2 3 rfl rfl)
theorem dX2_sings_53 : decode cX2_sings 53 = .ok (.iconst 1, 1) := dk_4 (dk_at dksX2_sings_2 5 rfl rfl)
theorem dX2_sings_54 : decode cX2_sings 54 = .ok (.if_icmp .ne 7, 3) := dk_160 0 7 (dk_at dksX2_sings_2 6 rfl rfl)
theorem dX2_sings_57 : decode cX2_sings 57 = .ok (.iconst 0, 1) := dk_3 (dk_at dksX2_sings_2 9 rfl rfl)
theorem dX2_sings_58 : decode cX2_sings 58 = .ok (.goto 6, 3) := dk_167 0 6 (dk_at dksX2_sings_2 10 rfl rfl)
theorem dX2_sings_61 : decode cX2_sings 61 = .ok (.ldc_w 415, 3) := dk_19 1 159 (dk_at dksX2_sings_2 13 rfl rfl)
theorem dX2_sings_64 : decode cX2_sings 64 = .ok (.istore 7, 2) := dk_54 7 (dk_at dksX2_sings_2 16 rfl rfl)
theorem dX2_sings_66 : decode cX2_sings 66 = .ok (.iconst (-1), 1) := dk_2 (dk_at dksX2_sings_2 18 rfl rfl)
theorem dX2_sings_67 : decode cX2_sings 67 = .ok (.istore 4, 2) := dk_54 4 (dk_at dksX2_sings_2 19 rfl rfl)
theorem dX2_sings_69 : decode cX2_sings 69 = .ok (.iload 6, 2) := dk_21 6 (dk_at dksX2_sings_2 21 rfl rfl)
theorem dX2_sings_71 : decode cX2_sings 71 = .ok (.istore 8, 2) := dk_54 8 (dk_at dksX2_sings_3 0 rfl rfl)
theorem dX2_sings_73 : decode cX2_sings 73 = .ok (.iload 8, 2) := dk_21 8 (dk_at dksX2_sings_3 2 rfl rfl)
theorem dX2_sings_75 : decode cX2_sings 75 = .ok (.iload 6, 2) := dk_21 6 (dk_at dksX2_sings_3 4 rfl rfl)
theorem dX2_sings_77 : decode cX2_sings 77 = .ok (.iload 5, 2) := dk_21 5 (dk_at dksX2_sings_3 6 rfl rfl)
theorem dX2_sings_79 : decode cX2_sings 79 = .ok (.iadd, 1) := dk_96 (dk_at dksX2_sings_3 8 rfl rfl)
theorem dX2_sings_80 : decode cX2_sings 80 = .ok (.iconst 1, 1) := dk_4 (dk_at dksX2_sings_3 9 rfl rfl)
theorem dX2_sings_81 : decode cX2_sings 81 = .ok (.isub, 1) := dk_100 (dk_at dksX2_sings_3 10 rfl rfl)
theorem dX2_sings_82 : decode cX2_sings 82 = .ok (.if_icmp .ge 44, 3) := dk_162 0 44 (dk_at dksX2_sings_3 11 rfl rfl)
theorem dX2_sings_85 : decode cX2_sings 85 = .ok (.aload_n 0, 1) := dk_42 (dk_at dksX2_sings_3 14 rfl rfl)
theorem dX2_sings_86 : decode cX2_sings 86 = .ok (.iload 6, 2) := dk_21 6 (dk_at dksX2_sings_3 15 rfl rfl)
theorem dX2_sings_88 : decode cX2_sings 88 = .ok (.iload 6, 2) := dk_21 6 (dk_at dksX2_sings_3 17 rfl rfl)
theorem dX2_sings_90 : decode cX2_sings 90 = .ok (.iload 5, 2) := dk_21 5 (dk_at dksX2_sings_3 19 rfl rfl)
theorem dX2_sings_92 : decode cX2_sings 92 = .ok (.iadd, 1) := dk_96 (dk_at dksX2_sings_3 21 rfl rfl)
theorem dX2_sings_93 : decode cX2_sings 93 = .ok (.iconst 1, 1) := dk_4 (dk_at dksX2_sings_3 22 rfl rfl)
theorem dX2_sings_94 : decode cX2_sings 94 = .ok (.isub, 1) := dk_100 (dk_at dksX2_sings_3 23 rfl rfl)
theorem dX2_sings_95 : decode cX2_sings 95 = .ok (.iload 8, 2) := dk_21 8 (dk_at dksX2_sings_4 0 rfl rfl)
theorem dX2_sings_97 : decode cX2_sings 97 = .ok (.invokevirtual 419, 3) := dk_182 1 163 (dk_at dksX2_sings_4 2 rfl rfl)
theorem dX2_sings_100 : decode cX2_sings 100 = .ok (.istore 9, 2) := dk_54 9 (dk_at dksX2_sings_4 5 rfl rfl)
theorem dX2_sings_102 : decode cX2_sings 102 = .ok (.iload 9, 2) := dk_21 9 (dk_at dksX2_sings_4 7 rfl rfl)
theorem dX2_sings_104 : decode cX2_sings 104 = .ok (.iload 7, 2) := dk_21 7 (dk_at dksX2_sings_4 9 rfl rfl)
theorem dX2_sings_106 : decode cX2_sings 106 = .ok (.if_icmp .lt 6, 3) := dk_161 0 6 (dk_at dksX2_sings_4 11 rfl rfl)
theorem dX2_sings_109 : decode cX2_sings 109 = .ok (.goto 11, 3) := dk_167 0 11 (dk_at dksX2_sings_4 14 rfl rfl)
theorem dX2_sings_112 : decode cX2_sings 112 = .ok (.iload 9, 2) := dk_21 9 (dk_at dksX2_sings_4 17 rfl rfl)
theorem dX2_sings_114 : decode cX2_sings 114 = .ok (.istore 7, 2) := dk_54 7 (dk_at dksX2_sings_4 19 rfl rfl)
theorem dX2_sings_116 : decode cX2_sings 116 = .ok (.iload 8, 2) := dk_21 8 (dk_at dksX2_sings_4 21 rfl rfl)
theorem dX2_sings_118 : decode cX2_sings 118 = .ok (.istore 4, 2) := dk_54 4 (dk_at dksX2_sings_5 0 rfl rfl)
theorem dX2_sings_120 : decode cX2_sings 120 = .ok (.iinc 8 1, 3) := dk_132 8 1 (dk_at dksX2_sings_5 2 rfl rfl)
theorem dX2_sings_123 : decode cX2_sings 123 = .ok (.goto (-50), 3) := dk_167 255 206 (dk_at dksX2_sings_5 5 rfl rfl)
theorem dX2_sings_126 : decode cX2_sings 126 = .ok (.aload_n 0, 1) := dk_42 (dk_at dksX2_sings_5 8 rfl rfl)
theorem dX2_sings_127 : decode cX2_sings 127 = .ok (.getfield 62, 3) := dk_180 0 62 (dk_at dksX2_sings_5 9 rfl rfl)
theorem dX2_sings_130 : decode cX2_sings 130 = .ok (.bipush 30, 2) := dk_16 30 (dk_at dksX2_sings_5 12 rfl rfl)
theorem dX2_sings_132 : decode cX2_sings 132 = .ok (.iload 6, 2) := dk_21 6 (dk_at dksX2_sings_5 14 rfl rfl)
theorem dX2_sings_134 : decode cX2_sings 134 = .ok (.imul, 1) := dk_104 (dk_at dksX2_sings_5 16 rfl rfl)
theorem dX2_sings_135 : decode cX2_sings 135 = .ok (.iload 6, 2) := dk_21 6 (dk_at dksX2_sings_5 17 rfl rfl)
theorem dX2_sings_137 : decode cX2_sings 137 = .ok (.iadd, 1) := dk_96 (dk_at dksX2_sings_5 19 rfl rfl)
theorem dX2_sings_138 : decode cX2_sings 138 = .ok (.iload 5, 2) := dk_21 5 (dk_at dksX2_sings_5 20 rfl rfl)
theorem dX2_sings_140 : decode cX2_sings 140 = .ok (.iadd, 1) := dk_96 (dk_at dksX2_sings_5 22 rfl rfl)
theorem dX2_sings_141 : decode cX2_sings 141 = .ok (.iconst 1, 1) := dk_4 (dk_at dksX2_sings_5 23 rfl rfl)
theorem dX2_sings_142 : decode cX2_sings 142 = .ok (.isub, 1) := dk_100 (dk_at dksX2_sings_6 0 rfl rfl)
theorem dX2_sings_143 : decode cX2_sings 143 = .ok (.iload 7, 2) := dk_21 7 (dk_at dksX2_sings_6 1 rfl rfl)
theorem dX2_sings_145 : decode cX2_sings 145 = .ok (.iastore, 1) := dk_79 (dk_at dksX2_sings_6 3 rfl rfl)
theorem dX2_sings_146 : decode cX2_sings 146 = .ok (.iinc 6 1, 3) := dk_132 6 1 (dk_at dksX2_sings_6 4 rfl rfl)
theorem dX2_sings_149 : decode cX2_sings 149 = .ok (.goto (-109), 3) := dk_167 255 147 (dk_at dksX2_sings_6 7 rfl rfl)
theorem dX2_sings_152 : decode cX2_sings 152 = .ok (.iinc 5 1, 3) := dk_132 5 1 (dk_at dksX2_sings_6 10 rfl rfl)
theorem dX2_sings_155 : decode cX2_sings 155 = .ok (.goto (-128), 3) := dk_167 255 128 (dk_at dksX2_sings_6 13 rfl rfl)
theorem dX2_sings_158 : decode cX2_sings 158 = .ok (.iload_n 3, 1) := dk_29 (dk_at dksX2_sings_6 16 rfl rfl)
theorem dX2_sings_159 : decode cX2_sings 159 = .ok (.ifCond .eq 8, 3) := dk_153 0 8 (dk_at dksX2_sings_6 17 rfl rfl)
theorem dX2_sings_162 : decode cX2_sings 162 = .ok (.iload 4, 2) := dk_21 4 (dk_at dksX2_sings_6 20 rfl rfl)
theorem dX2_sings_164 : decode cX2_sings 164 = .ok (.goto 14, 3) := dk_167 0 14 (dk_at dksX2_sings_7 0 rfl rfl)
theorem dX2_sings_167 : decode cX2_sings 167 = .ok (.aload_n 0, 1) := dk_42 (dk_at dksX2_sings_7 3 rfl rfl)
theorem dX2_sings_168 : decode cX2_sings 168 = .ok (.getfield 62, 3) := dk_180 0 62 (dk_at dksX2_sings_7 4 rfl rfl)
theorem dX2_sings_171 : decode cX2_sings 171 = .ok (.bipush 30, 2) := dk_16 30 (dk_at dksX2_sings_7 7 rfl rfl)
theorem dX2_sings_173 : decode cX2_sings 173 = .ok (.iload_n 1, 1) := dk_27 (dk_at dksX2_sings_7 9 rfl rfl)
theorem dX2_sings_174 : decode cX2_sings 174 = .ok (.imul, 1) := dk_104 (dk_at dksX2_sings_7 10 rfl rfl)
theorem dX2_sings_175 : decode cX2_sings 175 = .ok (.iload_n 2, 1) := dk_28 (dk_at dksX2_sings_7 11 rfl rfl)
theorem dX2_sings_176 : decode cX2_sings 176 = .ok (.iadd, 1) := dk_96 (dk_at dksX2_sings_7 12 rfl rfl)
theorem dX2_sings_177 : decode cX2_sings 177 = .ok (.iaload, 1) := dk_46 (dk_at dksX2_sings_7 13 rfl rfl)
theorem dX2_sings_178 : decode cX2_sings 178 = .ok (.ireturn, 1) := dk_172 (dk_at dksX2_sings_7 14 rfl rfl)
abbrev cX2_costBy : ByteArray := prog_20_method_121_code
def yX2_costBy : MethodName := ⟨RX2, "costBy", "(III)I"⟩
def dkwX2_costBy_2 : List UInt8 := [167, 0, 5, 21, 5, 96, 172]
abbrev dktX2_costBy_2 : List UInt8 := dkwX2_costBy_2 ++ []
def dkwX2_costBy_1 : List UInt8 := [96, 46, 54, 5, 42, 180, 0, 7, 16, 39, 29, 96, 46, 4, 96, 21, 4, 21, 5, 164, 0, 8, 21, 4]
abbrev dktX2_costBy_1 : List UInt8 := dkwX2_costBy_1 ++ dktX2_costBy_2
def dkwX2_costBy_0 : List UInt8 := [42, 180, 0, 62, 16, 30, 27, 104, 29, 96, 46, 54, 4, 42, 180, 0, 62, 16, 30, 29, 4, 96, 104, 28]
abbrev dktX2_costBy_0 : List UInt8 := dkwX2_costBy_0 ++ dktX2_costBy_1
theorem dksX2_costBy_0 : cX2_costBy.data.toList.drop 0 = dktX2_costBy_0 := by decide +kernel
theorem dksX2_costBy_1 : cX2_costBy.data.toList.drop 24 = dktX2_costBy_1 := dk_seg dksX2_costBy_0 24 rfl rfl
theorem dksX2_costBy_2 : cX2_costBy.data.toList.drop 48 = dktX2_costBy_2 := dk_seg dksX2_costBy_1 24 rfl rfl
theorem dX2_costBy_0 : decode cX2_costBy 0 = .ok (.aload_n 0, 1) := dk_42 (dk_at dksX2_costBy_0 0 rfl rfl)
theorem dX2_costBy_1 : decode cX2_costBy 1 = .ok (.getfield 62, 3) := dk_180 0 62 (dk_at dksX2_costBy_0 1 rfl rfl)
theorem dX2_costBy_4 : decode cX2_costBy 4 = .ok (.bipush 30, 2) := dk_16 30 (dk_at dksX2_costBy_0 4 rfl rfl)
theorem dX2_costBy_6 : decode cX2_costBy 6 = .ok (.iload_n 1, 1) := dk_27 (dk_at dksX2_costBy_0 6 rfl rfl)
theorem dX2_costBy_7 : decode cX2_costBy 7 = .ok (.imul, 1) := dk_104 (dk_at dksX2_costBy_0 7 rfl rfl)
theorem dX2_costBy_8 : decode cX2_costBy 8 = .ok (.iload_n 3, 1) := dk_29 (dk_at dksX2_costBy_0 8 rfl rfl)
theorem dX2_costBy_9 : decode cX2_costBy 9 = .ok (.iadd, 1) := dk_96 (dk_at dksX2_costBy_0 9 rfl rfl)
theorem dX2_costBy_10 : decode cX2_costBy 10 = .ok (.iaload, 1) := dk_46 (dk_at dksX2_costBy_0 10 rfl rfl)
theorem dX2_costBy_11 : decode cX2_costBy 11 = .ok (.istore 4, 2) := dk_54 4 (dk_at dksX2_costBy_0 11 rfl rfl)
theorem dX2_costBy_13 : decode cX2_costBy 13 = .ok (.aload_n 0, 1) := dk_42 (dk_at dksX2_costBy_0 13 rfl rfl)
theorem dX2_costBy_14 : decode cX2_costBy 14 = .ok (.getfield 62, 3) := dk_180 0 62 (dk_at dksX2_costBy_0 14 rfl rfl)
theorem dX2_costBy_17 : decode cX2_costBy 17 = .ok (.bipush 30, 2) := dk_16 30 (dk_at dksX2_costBy_0 17 rfl rfl)
theorem dX2_costBy_19 : decode cX2_costBy 19 = .ok (.iload_n 3, 1) := dk_29 (dk_at dksX2_costBy_0 19 rfl rfl)
theorem dX2_costBy_20 : decode cX2_costBy 20 = .ok (.iconst 1, 1) := dk_4 (dk_at dksX2_costBy_0 20 rfl rfl)
theorem dX2_costBy_21 : decode cX2_costBy 21 = .ok (.iadd, 1) := dk_96 (dk_at dksX2_costBy_0 21 rfl rfl)
theorem dX2_costBy_22 : decode cX2_costBy 22 = .ok (.imul, 1) := dk_104 (dk_at dksX2_costBy_0 22 rfl rfl)
theorem dX2_costBy_23 : decode cX2_costBy 23 = .ok (.iload_n 2, 1) := dk_28 (dk_at dksX2_costBy_0 23 rfl rfl)
theorem dX2_costBy_24 : decode cX2_costBy 24 = .ok (.iadd, 1) := dk_96 (dk_at dksX2_costBy_1 0 rfl rfl)
theorem dX2_costBy_25 : decode cX2_costBy 25 = .ok (.iaload, 1) := dk_46 (dk_at dksX2_costBy_1 1 rfl rfl)
theorem dX2_costBy_26 : decode cX2_costBy 26 = .ok (.istore 5, 2) := dk_54 5 (dk_at dksX2_costBy_1 2 rfl rfl)
theorem dX2_costBy_28 : decode cX2_costBy 28 = .ok (.aload_n 0, 1) := dk_42 (dk_at dksX2_costBy_1 4 rfl rfl)
theorem dX2_costBy_29 : decode cX2_costBy 29 = .ok (.getfield 7, 3) := dk_180 0 7 (dk_at dksX2_costBy_1 5 rfl rfl)
theorem dX2_costBy_32 : decode cX2_costBy 32 = .ok (.bipush 39, 2) := dk_16 39 (dk_at dksX2_costBy_1 8 rfl rfl)
theorem dX2_costBy_34 : decode cX2_costBy 34 = .ok (.iload_n 3, 1) := dk_29 (dk_at dksX2_costBy_1 10 rfl rfl)
theorem dX2_costBy_35 : decode cX2_costBy 35 = .ok (.iadd, 1) := dk_96 (dk_at dksX2_costBy_1 11 rfl rfl)
theorem dX2_costBy_36 : decode cX2_costBy 36 = .ok (.iaload, 1) := dk_46 (dk_at dksX2_costBy_1 12 rfl rfl)
theorem dX2_costBy_37 : decode cX2_costBy 37 = .ok (.iconst 1, 1) := dk_4 (dk_at dksX2_costBy_1 13 rfl rfl)
theorem dX2_costBy_38 : decode cX2_costBy 38 = .ok (.iadd, 1) := dk_96 (dk_at dksX2_costBy_1 14 rfl rfl)
theorem dX2_costBy_39 : decode cX2_costBy 39 = .ok (.iload 4, 2) := dk_21 4 (dk_at dksX2_costBy_1 15 rfl rfl)
theorem dX2_costBy_41 : decode cX2_costBy 41 = .ok (.iload 5, 2) := dk_21 5 (dk_at dksX2_costBy_1 17 rfl rfl)
theorem dX2_costBy_43 : decode cX2_costBy 43 = .ok (.if_icmp .le 8, 3) := dk_164 0 8 (dk_at dksX2_costBy_1 19 rfl rfl)
theorem dX2_costBy_46 : decode cX2_costBy 46 = .ok (.iload 4, 2) := dk_21 4 (dk_at dksX2_costBy_1 22 rfl rfl)
theorem dX2_costBy_48 : decode cX2_costBy 48 = .ok (.goto 5, 3) := dk_167 0 5 (dk_at dksX2_costBy_2 0 rfl rfl)
theorem dX2_costBy_51 : decode cX2_costBy 51 = .ok (.iload 5, 2) := dk_21 5 (dk_at dksX2_costBy_2 3 rfl rfl)
theorem dX2_costBy_53 : decode cX2_costBy 53 = .ok (.iadd, 1) := dk_96 (dk_at dksX2_costBy_2 5 rfl rfl)
theorem dX2_costBy_54 : decode cX2_costBy 54 = .ok (.ireturn, 1) := dk_172 (dk_at dksX2_costBy_2 6 rfl rfl)
abbrev cX2_visits : ByteArray := prog_20_method_123_code
def yX2_visits : MethodName := ⟨RX2, "visits", "(II)I"⟩
def dkwX2_visits_2 : List UInt8 := [112, 54, 4, 167, 255, 223, 29, 172]
abbrev dktX2_visits_2 : List UInt8 := dkwX2_visits_2 ++ []
def dkwX2_visits_1 : List UInt8 := [154, 0, 30, 29, 4, 21, 4, 120, 128, 62, 21, 4, 42, 180, 0, 7, 16, 76, 27, 96, 46, 96, 16, 30]
abbrev dktX2_visits_1 : List UInt8 := dkwX2_visits_1 ++ dktX2_visits_2
def dkwX2_visits_0 : List UInt8 := [42, 27, 28, 182, 1, 131, 154, 0, 5, 2, 172, 3, 62, 28, 54, 4, 29, 21, 4, 184, 0, 235]
abbrev dktX2_visits_0 : List UInt8 := dkwX2_visits_0 ++ dktX2_visits_1
theorem dksX2_visits_0 : cX2_visits.data.toList.drop 0 = dktX2_visits_0 := by decide +kernel
theorem dksX2_visits_1 : cX2_visits.data.toList.drop 22 = dktX2_visits_1 := dk_seg dksX2_visits_0 22 rfl rfl
theorem dksX2_visits_2 : cX2_visits.data.toList.drop 46 = dktX2_visits_2 := dk_seg dksX2_visits_1 24 rfl rfl
theorem dX2_visits_0 : decode cX2_visits 0 = .ok (.aload_n 0, 1) := dk_42 (dk_at dksX2_visits_0 0 rfl rfl)
theorem dX2_visits_1 : decode cX2_visits 1 = .ok (.iload_n 1, 1) := dk_27 (dk_at dksX2_visits_0 1 rfl rfl)
theorem dX2_visits_2 : decode cX2_visits 2 = .ok (.iload_n 2, 1) := dk_28 (dk_at dksX2_visits_0 2 rfl rfl)
theorem dX2_visits_3 : decode cX2_visits 3 = .ok (.invokevirtual 387, 3) := dk_182 1 131 (dk_at dksX2_visits_0 3 rfl rfl)
theorem dX2_visits_6 : decode cX2_visits 6 = .ok (.ifCond .ne 5, 3) := dk_154 0 5 (dk_at dksX2_visits_0 6 rfl rfl)
theorem dX2_visits_9 : decode cX2_visits 9 = .ok (.iconst (-1), 1) := dk_2 (dk_at dksX2_visits_0 9 rfl rfl)
theorem dX2_visits_10 : decode cX2_visits 10 = .ok (.ireturn, 1) := dk_172 (dk_at dksX2_visits_0 10 rfl rfl)
theorem dX2_visits_11 : decode cX2_visits 11 = .ok (.iconst 0, 1) := dk_3 (dk_at dksX2_visits_0 11 rfl rfl)
theorem dX2_visits_12 : decode cX2_visits 12 = .ok (.istore_n 3, 1) := dk_62 (dk_at dksX2_visits_0 12 rfl rfl)
theorem dX2_visits_13 : decode cX2_visits 13 = .ok (.iload_n 2, 1) := dk_28 (dk_at dksX2_visits_0 13 rfl rfl)
theorem dX2_visits_14 : decode cX2_visits 14 = .ok (.istore 4, 2) := dk_54 4 (dk_at dksX2_visits_0 14 rfl rfl)
theorem dX2_visits_16 : decode cX2_visits 16 = .ok (.iload_n 3, 1) := dk_29 (dk_at dksX2_visits_0 16 rfl rfl)
theorem dX2_visits_17 : decode cX2_visits 17 = .ok (.iload 4, 2) := dk_21 4 (dk_at dksX2_visits_0 17 rfl rfl)
theorem dX2_visits_19 : decode cX2_visits 19 = .ok (.invokestatic 235, 3) := dk_184 0 235 (dk_at dksX2_visits_0 19 rfl rfl)
theorem dX2_visits_22 : decode cX2_visits 22 = .ok (.ifCond .ne 30, 3) := dk_154 0 30 (dk_at dksX2_visits_1 0 rfl rfl)
theorem dX2_visits_25 : decode cX2_visits 25 = .ok (.iload_n 3, 1) := dk_29 (dk_at dksX2_visits_1 3 rfl rfl)
theorem dX2_visits_26 : decode cX2_visits 26 = .ok (.iconst 1, 1) := dk_4 (dk_at dksX2_visits_1 4 rfl rfl)
theorem dX2_visits_27 : decode cX2_visits 27 = .ok (.iload 4, 2) := dk_21 4 (dk_at dksX2_visits_1 5 rfl rfl)
theorem dX2_visits_29 : decode cX2_visits 29 = .ok (.ishl, 1) := dk_120 (dk_at dksX2_visits_1 7 rfl rfl)
theorem dX2_visits_30 : decode cX2_visits 30 = .ok (.ior, 1) := dk_128 (dk_at dksX2_visits_1 8 rfl rfl)
theorem dX2_visits_31 : decode cX2_visits 31 = .ok (.istore_n 3, 1) := dk_62 (dk_at dksX2_visits_1 9 rfl rfl)
theorem dX2_visits_32 : decode cX2_visits 32 = .ok (.iload 4, 2) := dk_21 4 (dk_at dksX2_visits_1 10 rfl rfl)
theorem dX2_visits_34 : decode cX2_visits 34 = .ok (.aload_n 0, 1) := dk_42 (dk_at dksX2_visits_1 12 rfl rfl)
theorem dX2_visits_35 : decode cX2_visits 35 = .ok (.getfield 7, 3) := dk_180 0 7 (dk_at dksX2_visits_1 13 rfl rfl)
theorem dX2_visits_38 : decode cX2_visits 38 = .ok (.bipush 76, 2) := dk_16 76 (dk_at dksX2_visits_1 16 rfl rfl)
theorem dX2_visits_40 : decode cX2_visits 40 = .ok (.iload_n 1, 1) := dk_27 (dk_at dksX2_visits_1 18 rfl rfl)
theorem dX2_visits_41 : decode cX2_visits 41 = .ok (.iadd, 1) := dk_96 (dk_at dksX2_visits_1 19 rfl rfl)
theorem dX2_visits_42 : decode cX2_visits 42 = .ok (.iaload, 1) := dk_46 (dk_at dksX2_visits_1 20 rfl rfl)
theorem dX2_visits_43 : decode cX2_visits 43 = .ok (.iadd, 1) := dk_96 (dk_at dksX2_visits_1 21 rfl rfl)
theorem dX2_visits_44 : decode cX2_visits 44 = .ok (.bipush 30, 2) := dk_16 30 (dk_at dksX2_visits_1 22 rfl rfl)
theorem dX2_visits_46 : decode cX2_visits 46 = .ok (.irem, 1) := dk_112 (dk_at dksX2_visits_2 0 rfl rfl)
theorem dX2_visits_47 : decode cX2_visits 47 = .ok (.istore 4, 2) := dk_54 4 (dk_at dksX2_visits_2 1 rfl rfl)
theorem dX2_visits_49 : decode cX2_visits 49 = .ok (.goto (-33), 3) := dk_167 255 223 (dk_at dksX2_visits_2 3 rfl rfl)
theorem dX2_visits_52 : decode cX2_visits 52 = .ok (.iload_n 3, 1) := dk_29 (dk_at dksX2_visits_2 6 rfl rfl)
theorem dX2_visits_53 : decode cX2_visits 53 = .ok (.ireturn, 1) := dk_172 (dk_at dksX2_visits_2 7 rfl rfl)
abbrev cX2_meet : ByteArray := prog_20_method_124_code
def yX2_meet : MethodName := ⟨RX2, "meet", "(IIII)I"⟩
def dkwX2_meet_3 : List UInt8 := [132, 5, 1, 167, 255, 205, 2, 172]
abbrev dktX2_meet_3 : List UInt8 := dkwX2_meet_3 ++ []
def dkwX2_meet_2 : List UInt8 := [21, 4, 21, 5, 42, 180, 0, 7, 16, 76, 29, 96, 46, 104, 96, 16, 30, 112, 160, 0, 6, 21, 5, 172]
abbrev dktX2_meet_2 : List UInt8 := dkwX2_meet_2 ++ dktX2_meet_3
def dkwX2_meet_1 : List UInt8 := [21, 5, 16, 30, 162, 0, 50, 28, 21, 5, 42, 180, 0, 7, 16, 76, 27, 96, 46, 104, 96, 16, 30, 112]
abbrev dktX2_meet_1 : List UInt8 := dkwX2_meet_1 ++ dktX2_meet_2
def dkwX2_meet_0 : List UInt8 := [42, 27, 28, 182, 1, 131, 153, 0, 13, 42, 29, 21, 4, 182, 1, 131, 154, 0, 5, 2, 172, 3, 54, 5]
abbrev dktX2_meet_0 : List UInt8 := dkwX2_meet_0 ++ dktX2_meet_1
theorem dksX2_meet_0 : cX2_meet.data.toList.drop 0 = dktX2_meet_0 := by decide +kernel
theorem dksX2_meet_1 : cX2_meet.data.toList.drop 24 = dktX2_meet_1 := dk_seg dksX2_meet_0 24 rfl rfl
theorem dksX2_meet_2 : cX2_meet.data.toList.drop 48 = dktX2_meet_2 := dk_seg dksX2_meet_1 24 rfl rfl
theorem dksX2_meet_3 : cX2_meet.data.toList.drop 72 = dktX2_meet_3 := dk_seg dksX2_meet_2 24 rfl rfl
theorem dX2_meet_0 : decode cX2_meet 0 = .ok (.aload_n 0, 1) := dk_42 (dk_at dksX2_meet_0 0 rfl rfl)
theorem dX2_meet_1 : decode cX2_meet 1 = .ok (.iload_n 1, 1) := dk_27 (dk_at dksX2_meet_0 1 rfl rfl)
theorem dX2_meet_2 : decode cX2_meet 2 = .ok (.iload_n 2, 1) := dk_28 (dk_at dksX2_meet_0 2 rfl rfl)
theorem dX2_meet_3 : decode cX2_meet 3 = .ok (.invokevirtual 387, 3) := dk_182 1 131 (dk_at dksX2_meet_0 3 rfl rfl)
theorem dX2_meet_6 : decode cX2_meet 6 = .ok (.ifCond .eq 13, 3) := dk_153 0 13 (dk_at dksX2_meet_0 6 rfl rfl)
theorem dX2_meet_9 : decode cX2_meet 9 = .ok (.aload_n 0, 1) := dk_42 (dk_at dksX2_meet_0 9 rfl rfl)
theorem dX2_meet_10 : decode cX2_meet 10 = .ok (.iload_n 3, 1) := dk_29 (dk_at dksX2_meet_0 10 rfl rfl)
theorem dX2_meet_11 : decode cX2_meet 11 = .ok (.iload 4, 2) := dk_21 4 (dk_at dksX2_meet_0 11 rfl rfl)
theorem dX2_meet_13 : decode cX2_meet 13 = .ok (.invokevirtual 387, 3) := dk_182 1 131 (dk_at dksX2_meet_0 13 rfl rfl)
theorem dX2_meet_16 : decode cX2_meet 16 = .ok (.ifCond .ne 5, 3) := dk_154 0 5 (dk_at dksX2_meet_0 16 rfl rfl)
theorem dX2_meet_19 : decode cX2_meet 19 = .ok (.iconst (-1), 1) := dk_2 (dk_at dksX2_meet_0 19 rfl rfl)
theorem dX2_meet_20 : decode cX2_meet 20 = .ok (.ireturn, 1) := dk_172 (dk_at dksX2_meet_0 20 rfl rfl)
theorem dX2_meet_21 : decode cX2_meet 21 = .ok (.iconst 0, 1) := dk_3 (dk_at dksX2_meet_0 21 rfl rfl)
theorem dX2_meet_22 : decode cX2_meet 22 = .ok (.istore 5, 2) := dk_54 5 (dk_at dksX2_meet_0 22 rfl rfl)
theorem dX2_meet_24 : decode cX2_meet 24 = .ok (.iload 5, 2) := dk_21 5 (dk_at dksX2_meet_1 0 rfl rfl)
theorem dX2_meet_26 : decode cX2_meet 26 = .ok (.bipush 30, 2) := dk_16 30 (dk_at dksX2_meet_1 2 rfl rfl)
theorem dX2_meet_28 : decode cX2_meet 28 = .ok (.if_icmp .ge 50, 3) := dk_162 0 50 (dk_at dksX2_meet_1 4 rfl rfl)
theorem dX2_meet_31 : decode cX2_meet 31 = .ok (.iload_n 2, 1) := dk_28 (dk_at dksX2_meet_1 7 rfl rfl)
theorem dX2_meet_32 : decode cX2_meet 32 = .ok (.iload 5, 2) := dk_21 5 (dk_at dksX2_meet_1 8 rfl rfl)
theorem dX2_meet_34 : decode cX2_meet 34 = .ok (.aload_n 0, 1) := dk_42 (dk_at dksX2_meet_1 10 rfl rfl)
theorem dX2_meet_35 : decode cX2_meet 35 = .ok (.getfield 7, 3) := dk_180 0 7 (dk_at dksX2_meet_1 11 rfl rfl)
theorem dX2_meet_38 : decode cX2_meet 38 = .ok (.bipush 76, 2) := dk_16 76 (dk_at dksX2_meet_1 14 rfl rfl)
theorem dX2_meet_40 : decode cX2_meet 40 = .ok (.iload_n 1, 1) := dk_27 (dk_at dksX2_meet_1 16 rfl rfl)
theorem dX2_meet_41 : decode cX2_meet 41 = .ok (.iadd, 1) := dk_96 (dk_at dksX2_meet_1 17 rfl rfl)
theorem dX2_meet_42 : decode cX2_meet 42 = .ok (.iaload, 1) := dk_46 (dk_at dksX2_meet_1 18 rfl rfl)
theorem dX2_meet_43 : decode cX2_meet 43 = .ok (.imul, 1) := dk_104 (dk_at dksX2_meet_1 19 rfl rfl)
theorem dX2_meet_44 : decode cX2_meet 44 = .ok (.iadd, 1) := dk_96 (dk_at dksX2_meet_1 20 rfl rfl)
theorem dX2_meet_45 : decode cX2_meet 45 = .ok (.bipush 30, 2) := dk_16 30 (dk_at dksX2_meet_1 21 rfl rfl)
theorem dX2_meet_47 : decode cX2_meet 47 = .ok (.irem, 1) := dk_112 (dk_at dksX2_meet_1 23 rfl rfl)
theorem dX2_meet_48 : decode cX2_meet 48 = .ok (.iload 4, 2) := dk_21 4 (dk_at dksX2_meet_2 0 rfl rfl)
theorem dX2_meet_50 : decode cX2_meet 50 = .ok (.iload 5, 2) := dk_21 5 (dk_at dksX2_meet_2 2 rfl rfl)
theorem dX2_meet_52 : decode cX2_meet 52 = .ok (.aload_n 0, 1) := dk_42 (dk_at dksX2_meet_2 4 rfl rfl)
theorem dX2_meet_53 : decode cX2_meet 53 = .ok (.getfield 7, 3) := dk_180 0 7 (dk_at dksX2_meet_2 5 rfl rfl)
theorem dX2_meet_56 : decode cX2_meet 56 = .ok (.bipush 76, 2) := dk_16 76 (dk_at dksX2_meet_2 8 rfl rfl)
theorem dX2_meet_58 : decode cX2_meet 58 = .ok (.iload_n 3, 1) := dk_29 (dk_at dksX2_meet_2 10 rfl rfl)
theorem dX2_meet_59 : decode cX2_meet 59 = .ok (.iadd, 1) := dk_96 (dk_at dksX2_meet_2 11 rfl rfl)
theorem dX2_meet_60 : decode cX2_meet 60 = .ok (.iaload, 1) := dk_46 (dk_at dksX2_meet_2 12 rfl rfl)
theorem dX2_meet_61 : decode cX2_meet 61 = .ok (.imul, 1) := dk_104 (dk_at dksX2_meet_2 13 rfl rfl)
theorem dX2_meet_62 : decode cX2_meet 62 = .ok (.iadd, 1) := dk_96 (dk_at dksX2_meet_2 14 rfl rfl)
theorem dX2_meet_63 : decode cX2_meet 63 = .ok (.bipush 30, 2) := dk_16 30 (dk_at dksX2_meet_2 15 rfl rfl)
theorem dX2_meet_65 : decode cX2_meet 65 = .ok (.irem, 1) := dk_112 (dk_at dksX2_meet_2 17 rfl rfl)
theorem dX2_meet_66 : decode cX2_meet 66 = .ok (.if_icmp .ne 6, 3) := dk_160 0 6 (dk_at dksX2_meet_2 18 rfl rfl)
theorem dX2_meet_69 : decode cX2_meet 69 = .ok (.iload 5, 2) := dk_21 5 (dk_at dksX2_meet_2 21 rfl rfl)
theorem dX2_meet_71 : decode cX2_meet 71 = .ok (.ireturn, 1) := dk_172 (dk_at dksX2_meet_2 23 rfl rfl)
theorem dX2_meet_72 : decode cX2_meet 72 = .ok (.iinc 5 1, 3) := dk_132 5 1 (dk_at dksX2_meet_3 0 rfl rfl)
theorem dX2_meet_75 : decode cX2_meet 75 = .ok (.goto (-51), 3) := dk_167 255 205 (dk_at dksX2_meet_3 3 rfl rfl)
theorem dX2_meet_78 : decode cX2_meet 78 = .ok (.iconst (-1), 1) := dk_2 (dk_at dksX2_meet_3 6 rfl rfl)
theorem dX2_meet_79 : decode cX2_meet 79 = .ok (.ireturn, 1) := dk_172 (dk_at dksX2_meet_3 7 rfl rfl)
abbrev cX2_period : ByteArray := prog_20_method_126_code
def yX2_period : MethodName := ⟨RX2, "period", "()I"⟩
def dkwX2_period_0 : List UInt8 := [4, 60, 42, 27, 182, 1, 166, 154, 0, 9, 132, 1, 1, 167, 255, 245, 27, 172]
abbrev dktX2_period_0 : List UInt8 := dkwX2_period_0 ++ []
theorem dksX2_period_0 : cX2_period.data.toList.drop 0 = dktX2_period_0 := by decide +kernel
theorem dX2_period_0 : decode cX2_period 0 = .ok (.iconst 1, 1) := dk_4 (dk_at dksX2_period_0 0 rfl rfl)
theorem dX2_period_1 : decode cX2_period 1 = .ok (.istore_n 1, 1) := dk_60 (dk_at dksX2_period_0 1 rfl rfl)
theorem dX2_period_2 : decode cX2_period 2 = .ok (.aload_n 0, 1) := dk_42 (dk_at dksX2_period_0 2 rfl rfl)
theorem dX2_period_3 : decode cX2_period 3 = .ok (.iload_n 1, 1) := dk_27 (dk_at dksX2_period_0 3 rfl rfl)
theorem dX2_period_4 : decode cX2_period 4 = .ok (.invokevirtual 422, 3) := dk_182 1 166 (dk_at dksX2_period_0 4 rfl rfl)
theorem dX2_period_7 : decode cX2_period 7 = .ok (.ifCond .ne 9, 3) := dk_154 0 9 (dk_at dksX2_period_0 7 rfl rfl)
theorem dX2_period_10 : decode cX2_period 10 = .ok (.iinc 1 1, 3) := dk_132 1 1 (dk_at dksX2_period_0 10 rfl rfl)
theorem dX2_period_13 : decode cX2_period 13 = .ok (.goto (-11), 3) := dk_167 255 245 (dk_at dksX2_period_0 13 rfl rfl)
theorem dX2_period_16 : decode cX2_period 16 = .ok (.iload_n 1, 1) := dk_27 (dk_at dksX2_period_0 16 rfl rfl)
theorem dX2_period_17 : decode cX2_period 17 = .ok (.ireturn, 1) := dk_172 (dk_at dksX2_period_0 17 rfl rfl)
abbrev cX2_isTurn : ByteArray := prog_20_method_125_code
def yX2_isTurn : MethodName := ⟨RX2, "isTurn", "(I)Z"⟩
def dkwX2_isTurn_1 : List UInt8 := [27, 96, 16, 30, 112, 96, 46, 159, 0, 5, 3, 172, 132, 2, 1, 167, 255, 219, 4, 172]
abbrev dktX2_isTurn_1 : List UInt8 := dkwX2_isTurn_1 ++ []
def dkwX2_isTurn_0 : List UInt8 := [3, 61, 28, 16, 30, 162, 0, 37, 42, 180, 0, 7, 16, 9, 28, 96, 46, 42, 180, 0, 7, 16, 9, 28]
abbrev dktX2_isTurn_0 : List UInt8 := dkwX2_isTurn_0 ++ dktX2_isTurn_1
theorem dksX2_isTurn_0 : cX2_isTurn.data.toList.drop 0 = dktX2_isTurn_0 := by decide +kernel
theorem dksX2_isTurn_1 : cX2_isTurn.data.toList.drop 24 = dktX2_isTurn_1 := dk_seg dksX2_isTurn_0 24 rfl rfl
theorem dX2_isTurn_0 : decode cX2_isTurn 0 = .ok (.iconst 0, 1) := dk_3 (dk_at dksX2_isTurn_0 0 rfl rfl)
theorem dX2_isTurn_1 : decode cX2_isTurn 1 = .ok (.istore_n 2, 1) := dk_61 (dk_at dksX2_isTurn_0 1 rfl rfl)
theorem dX2_isTurn_2 : decode cX2_isTurn 2 = .ok (.iload_n 2, 1) := dk_28 (dk_at dksX2_isTurn_0 2 rfl rfl)
theorem dX2_isTurn_3 : decode cX2_isTurn 3 = .ok (.bipush 30, 2) := dk_16 30 (dk_at dksX2_isTurn_0 3 rfl rfl)
theorem dX2_isTurn_5 : decode cX2_isTurn 5 = .ok (.if_icmp .ge 37, 3) := dk_162 0 37 (dk_at dksX2_isTurn_0 5 rfl rfl)
theorem dX2_isTurn_8 : decode cX2_isTurn 8 = .ok (.aload_n 0, 1) := dk_42 (dk_at dksX2_isTurn_0 8 rfl rfl)
theorem dX2_isTurn_9 : decode cX2_isTurn 9 = .ok (.getfield 7, 3) := dk_180 0 7 (dk_at dksX2_isTurn_0 9 rfl rfl)
theorem dX2_isTurn_12 : decode cX2_isTurn 12 = .ok (.bipush 9, 2) := dk_16 9 (dk_at dksX2_isTurn_0 12 rfl rfl)
theorem dX2_isTurn_14 : decode cX2_isTurn 14 = .ok (.iload_n 2, 1) := dk_28 (dk_at dksX2_isTurn_0 14 rfl rfl)
theorem dX2_isTurn_15 : decode cX2_isTurn 15 = .ok (.iadd, 1) := dk_96 (dk_at dksX2_isTurn_0 15 rfl rfl)
theorem dX2_isTurn_16 : decode cX2_isTurn 16 = .ok (.iaload, 1) := dk_46 (dk_at dksX2_isTurn_0 16 rfl rfl)
theorem dX2_isTurn_17 : decode cX2_isTurn 17 = .ok (.aload_n 0, 1) := dk_42 (dk_at dksX2_isTurn_0 17 rfl rfl)
theorem dX2_isTurn_18 : decode cX2_isTurn 18 = .ok (.getfield 7, 3) := dk_180 0 7 (dk_at dksX2_isTurn_0 18 rfl rfl)
theorem dX2_isTurn_21 : decode cX2_isTurn 21 = .ok (.bipush 9, 2) := dk_16 9 (dk_at dksX2_isTurn_0 21 rfl rfl)
theorem dX2_isTurn_23 : decode cX2_isTurn 23 = .ok (.iload_n 2, 1) := dk_28 (dk_at dksX2_isTurn_0 23 rfl rfl)
theorem dX2_isTurn_24 : decode cX2_isTurn 24 = .ok (.iload_n 1, 1) := dk_27 (dk_at dksX2_isTurn_1 0 rfl rfl)
theorem dX2_isTurn_25 : decode cX2_isTurn 25 = .ok (.iadd, 1) := dk_96 (dk_at dksX2_isTurn_1 1 rfl rfl)
theorem dX2_isTurn_26 : decode cX2_isTurn 26 = .ok (.bipush 30, 2) := dk_16 30 (dk_at dksX2_isTurn_1 2 rfl rfl)
theorem dX2_isTurn_28 : decode cX2_isTurn 28 = .ok (.irem, 1) := dk_112 (dk_at dksX2_isTurn_1 4 rfl rfl)
theorem dX2_isTurn_29 : decode cX2_isTurn 29 = .ok (.iadd, 1) := dk_96 (dk_at dksX2_isTurn_1 5 rfl rfl)
theorem dX2_isTurn_30 : decode cX2_isTurn 30 = .ok (.iaload, 1) := dk_46 (dk_at dksX2_isTurn_1 6 rfl rfl)
theorem dX2_isTurn_31 : decode cX2_isTurn 31 = .ok (.if_icmp .eq 5, 3) := dk_159 0 5 (dk_at dksX2_isTurn_1 7 rfl rfl)
theorem dX2_isTurn_34 : decode cX2_isTurn 34 = .ok (.iconst 0, 1) := dk_3 (dk_at dksX2_isTurn_1 10 rfl rfl)
theorem dX2_isTurn_35 : decode cX2_isTurn 35 = .ok (.ireturn, 1) := dk_172 (dk_at dksX2_isTurn_1 11 rfl rfl)
theorem dX2_isTurn_36 : decode cX2_isTurn 36 = .ok (.iinc 2 1, 3) := dk_132 2 1 (dk_at dksX2_isTurn_1 12 rfl rfl)
theorem dX2_isTurn_39 : decode cX2_isTurn 39 = .ok (.goto (-37), 3) := dk_167 255 219 (dk_at dksX2_isTurn_1 15 rfl rfl)
theorem dX2_isTurn_42 : decode cX2_isTurn 42 = .ok (.iconst 1, 1) := dk_4 (dk_at dksX2_isTurn_1 18 rfl rfl)
theorem dX2_isTurn_43 : decode cX2_isTurn 43 = .ok (.ireturn, 1) := dk_172 (dk_at dksX2_isTurn_1 19 rfl rfl)
abbrev cX2_least : ByteArray := prog_20_method_128_code
def yX2_least : MethodName := ⟨RX2, "least", "()I"⟩
def dkwX2_least_1 : List UInt8 := [167, 255, 236, 27, 172]
abbrev dktX2_least_1 : List UInt8 := dkwX2_least_1 ++ []
def dkwX2_least_0 : List UInt8 := [3, 60, 4, 61, 28, 16, 30, 162, 0, 20, 42, 28, 27, 182, 1, 169, 153, 0, 5, 28, 60, 132, 2, 1]
abbrev dktX2_least_0 : List UInt8 := dkwX2_least_0 ++ dktX2_least_1
theorem dksX2_least_0 : cX2_least.data.toList.drop 0 = dktX2_least_0 := by decide +kernel
theorem dksX2_least_1 : cX2_least.data.toList.drop 24 = dktX2_least_1 := dk_seg dksX2_least_0 24 rfl rfl
theorem dX2_least_0 : decode cX2_least 0 = .ok (.iconst 0, 1) := dk_3 (dk_at dksX2_least_0 0 rfl rfl)
theorem dX2_least_1 : decode cX2_least 1 = .ok (.istore_n 1, 1) := dk_60 (dk_at dksX2_least_0 1 rfl rfl)
theorem dX2_least_2 : decode cX2_least 2 = .ok (.iconst 1, 1) := dk_4 (dk_at dksX2_least_0 2 rfl rfl)
theorem dX2_least_3 : decode cX2_least 3 = .ok (.istore_n 2, 1) := dk_61 (dk_at dksX2_least_0 3 rfl rfl)
theorem dX2_least_4 : decode cX2_least 4 = .ok (.iload_n 2, 1) := dk_28 (dk_at dksX2_least_0 4 rfl rfl)
theorem dX2_least_5 : decode cX2_least 5 = .ok (.bipush 30, 2) := dk_16 30 (dk_at dksX2_least_0 5 rfl rfl)
theorem dX2_least_7 : decode cX2_least 7 = .ok (.if_icmp .ge 20, 3) := dk_162 0 20 (dk_at dksX2_least_0 7 rfl rfl)
theorem dX2_least_10 : decode cX2_least 10 = .ok (.aload_n 0, 1) := dk_42 (dk_at dksX2_least_0 10 rfl rfl)
theorem dX2_least_11 : decode cX2_least 11 = .ok (.iload_n 2, 1) := dk_28 (dk_at dksX2_least_0 11 rfl rfl)
theorem dX2_least_12 : decode cX2_least 12 = .ok (.iload_n 1, 1) := dk_27 (dk_at dksX2_least_0 12 rfl rfl)
theorem dX2_least_13 : decode cX2_least 13 = .ok (.invokevirtual 425, 3) := dk_182 1 169 (dk_at dksX2_least_0 13 rfl rfl)
theorem dX2_least_16 : decode cX2_least 16 = .ok (.ifCond .eq 5, 3) := dk_153 0 5 (dk_at dksX2_least_0 16 rfl rfl)
theorem dX2_least_19 : decode cX2_least 19 = .ok (.iload_n 2, 1) := dk_28 (dk_at dksX2_least_0 19 rfl rfl)
theorem dX2_least_20 : decode cX2_least 20 = .ok (.istore_n 1, 1) := dk_60 (dk_at dksX2_least_0 20 rfl rfl)
theorem dX2_least_21 : decode cX2_least 21 = .ok (.iinc 2 1, 3) := dk_132 2 1 (dk_at dksX2_least_0 21 rfl rfl)
theorem dX2_least_24 : decode cX2_least 24 = .ok (.goto (-20), 3) := dk_167 255 236 (dk_at dksX2_least_1 0 rfl rfl)
theorem dX2_least_27 : decode cX2_least 27 = .ok (.iload_n 1, 1) := dk_27 (dk_at dksX2_least_1 3 rfl rfl)
theorem dX2_least_28 : decode cX2_least 28 = .ok (.ireturn, 1) := dk_172 (dk_at dksX2_least_1 4 rfl rfl)
abbrev cX2_isAhead : ByteArray := prog_20_method_127_code
def yX2_isAhead : MethodName := ⟨RX2, "isAhead", "(II)Z"⟩
def dkwX2_isAhead_2 : List UInt8 := [21, 4, 21, 5, 162, 0, 7, 4, 167, 0, 4, 3, 172, 132, 3, 1, 167, 255, 195, 3, 172]
abbrev dktX2_isAhead_2 : List UInt8 := dkwX2_isAhead_2 ++ []
def dkwX2_isAhead_1 : List UInt8 := [42, 180, 0, 7, 16, 9, 28, 29, 96, 16, 30, 112, 96, 46, 54, 5, 21, 4, 21, 5, 159, 0, 16]
abbrev dktX2_isAhead_1 : List UInt8 := dkwX2_isAhead_1 ++ dktX2_isAhead_2
def dkwX2_isAhead_0 : List UInt8 := [3, 62, 29, 16, 30, 162, 0, 61, 42, 180, 0, 7, 16, 9, 27, 29, 96, 16, 30, 112, 96, 46, 54, 4]
abbrev dktX2_isAhead_0 : List UInt8 := dkwX2_isAhead_0 ++ dktX2_isAhead_1
theorem dksX2_isAhead_0 : cX2_isAhead.data.toList.drop 0 = dktX2_isAhead_0 := by decide +kernel
theorem dksX2_isAhead_1 : cX2_isAhead.data.toList.drop 24 = dktX2_isAhead_1 := dk_seg dksX2_isAhead_0 24 rfl rfl
theorem dksX2_isAhead_2 : cX2_isAhead.data.toList.drop 47 = dktX2_isAhead_2 := dk_seg dksX2_isAhead_1 23 rfl rfl
theorem dX2_isAhead_0 : decode cX2_isAhead 0 = .ok (.iconst 0, 1) := dk_3 (dk_at dksX2_isAhead_0 0 rfl rfl)
theorem dX2_isAhead_1 : decode cX2_isAhead 1 = .ok (.istore_n 3, 1) := dk_62 (dk_at dksX2_isAhead_0 1 rfl rfl)
theorem dX2_isAhead_2 : decode cX2_isAhead 2 = .ok (.iload_n 3, 1) := dk_29 (dk_at dksX2_isAhead_0 2 rfl rfl)
theorem dX2_isAhead_3 : decode cX2_isAhead 3 = .ok (.bipush 30, 2) := dk_16 30 (dk_at dksX2_isAhead_0 3 rfl rfl)
theorem dX2_isAhead_5 : decode cX2_isAhead 5 = .ok (.if_icmp .ge 61, 3) := dk_162 0 61 (dk_at dksX2_isAhead_0 5 rfl rfl)
theorem dX2_isAhead_8 : decode cX2_isAhead 8 = .ok (.aload_n 0, 1) := dk_42 (dk_at dksX2_isAhead_0 8 rfl rfl)
theorem dX2_isAhead_9 : decode cX2_isAhead 9 = .ok (.getfield 7, 3) := dk_180 0 7 (dk_at dksX2_isAhead_0 9 rfl rfl)
theorem dX2_isAhead_12 : decode cX2_isAhead 12 = .ok (.bipush 9, 2) := dk_16 9 (dk_at dksX2_isAhead_0 12 rfl rfl)
theorem dX2_isAhead_14 : decode cX2_isAhead 14 = .ok (.iload_n 1, 1) := dk_27 (dk_at dksX2_isAhead_0 14 rfl rfl)
theorem dX2_isAhead_15 : decode cX2_isAhead 15 = .ok (.iload_n 3, 1) := dk_29 (dk_at dksX2_isAhead_0 15 rfl rfl)
theorem dX2_isAhead_16 : decode cX2_isAhead 16 = .ok (.iadd, 1) := dk_96 (dk_at dksX2_isAhead_0 16 rfl rfl)
theorem dX2_isAhead_17 : decode cX2_isAhead 17 = .ok (.bipush 30, 2) := dk_16 30 (dk_at dksX2_isAhead_0 17 rfl rfl)
theorem dX2_isAhead_19 : decode cX2_isAhead 19 = .ok (.irem, 1) := dk_112 (dk_at dksX2_isAhead_0 19 rfl rfl)
theorem dX2_isAhead_20 : decode cX2_isAhead 20 = .ok (.iadd, 1) := dk_96 (dk_at dksX2_isAhead_0 20 rfl rfl)
theorem dX2_isAhead_21 : decode cX2_isAhead 21 = .ok (.iaload, 1) := dk_46 (dk_at dksX2_isAhead_0 21 rfl rfl)
theorem dX2_isAhead_22 : decode cX2_isAhead 22 = .ok (.istore 4, 2) := dk_54 4 (dk_at dksX2_isAhead_0 22 rfl rfl)
theorem dX2_isAhead_24 : decode cX2_isAhead 24 = .ok (.aload_n 0, 1) := dk_42 (dk_at dksX2_isAhead_1 0 rfl rfl)
theorem dX2_isAhead_25 : decode cX2_isAhead 25 = .ok (.getfield 7, 3) := dk_180 0 7 (dk_at dksX2_isAhead_1 1 rfl rfl)
theorem dX2_isAhead_28 : decode cX2_isAhead 28 = .ok (.bipush 9, 2) := dk_16 9 (dk_at dksX2_isAhead_1 4 rfl rfl)
theorem dX2_isAhead_30 : decode cX2_isAhead 30 = .ok (.iload_n 2, 1) := dk_28 (dk_at dksX2_isAhead_1 6 rfl rfl)
theorem dX2_isAhead_31 : decode cX2_isAhead 31 = .ok (.iload_n 3, 1) := dk_29 (dk_at dksX2_isAhead_1 7 rfl rfl)
theorem dX2_isAhead_32 : decode cX2_isAhead 32 = .ok (.iadd, 1) := dk_96 (dk_at dksX2_isAhead_1 8 rfl rfl)
theorem dX2_isAhead_33 : decode cX2_isAhead 33 = .ok (.bipush 30, 2) := dk_16 30 (dk_at dksX2_isAhead_1 9 rfl rfl)
theorem dX2_isAhead_35 : decode cX2_isAhead 35 = .ok (.irem, 1) := dk_112 (dk_at dksX2_isAhead_1 11 rfl rfl)
theorem dX2_isAhead_36 : decode cX2_isAhead 36 = .ok (.iadd, 1) := dk_96 (dk_at dksX2_isAhead_1 12 rfl rfl)
theorem dX2_isAhead_37 : decode cX2_isAhead 37 = .ok (.iaload, 1) := dk_46 (dk_at dksX2_isAhead_1 13 rfl rfl)
theorem dX2_isAhead_38 : decode cX2_isAhead 38 = .ok (.istore 5, 2) := dk_54 5 (dk_at dksX2_isAhead_1 14 rfl rfl)
theorem dX2_isAhead_40 : decode cX2_isAhead 40 = .ok (.iload 4, 2) := dk_21 4 (dk_at dksX2_isAhead_1 16 rfl rfl)
theorem dX2_isAhead_42 : decode cX2_isAhead 42 = .ok (.iload 5, 2) := dk_21 5 (dk_at dksX2_isAhead_1 18 rfl rfl)
theorem dX2_isAhead_44 : decode cX2_isAhead 44 = .ok (.if_icmp .eq 16, 3) := dk_159 0 16 (dk_at dksX2_isAhead_1 20 rfl rfl)
theorem dX2_isAhead_47 : decode cX2_isAhead 47 = .ok (.iload 4, 2) := dk_21 4 (dk_at dksX2_isAhead_2 0 rfl rfl)
theorem dX2_isAhead_49 : decode cX2_isAhead 49 = .ok (.iload 5, 2) := dk_21 5 (dk_at dksX2_isAhead_2 2 rfl rfl)
theorem dX2_isAhead_51 : decode cX2_isAhead 51 = .ok (.if_icmp .ge 7, 3) := dk_162 0 7 (dk_at dksX2_isAhead_2 4 rfl rfl)
theorem dX2_isAhead_54 : decode cX2_isAhead 54 = .ok (.iconst 1, 1) := dk_4 (dk_at dksX2_isAhead_2 7 rfl rfl)
theorem dX2_isAhead_55 : decode cX2_isAhead 55 = .ok (.goto 4, 3) := dk_167 0 4 (dk_at dksX2_isAhead_2 8 rfl rfl)
theorem dX2_isAhead_58 : decode cX2_isAhead 58 = .ok (.iconst 0, 1) := dk_3 (dk_at dksX2_isAhead_2 11 rfl rfl)
theorem dX2_isAhead_59 : decode cX2_isAhead 59 = .ok (.ireturn, 1) := dk_172 (dk_at dksX2_isAhead_2 12 rfl rfl)
theorem dX2_isAhead_60 : decode cX2_isAhead 60 = .ok (.iinc 3 1, 3) := dk_132 3 1 (dk_at dksX2_isAhead_2 13 rfl rfl)
theorem dX2_isAhead_63 : decode cX2_isAhead 63 = .ok (.goto (-61), 3) := dk_167 255 195 (dk_at dksX2_isAhead_2 16 rfl rfl)
theorem dX2_isAhead_66 : decode cX2_isAhead 66 = .ok (.iconst 0, 1) := dk_3 (dk_at dksX2_isAhead_2 19 rfl rfl)
theorem dX2_isAhead_67 : decode cX2_isAhead 67 = .ok (.ireturn, 1) := dk_172 (dk_at dksX2_isAhead_2 20 rfl rfl)
abbrev cX2_mirrors : ByteArray := prog_20_method_130_code
def yX2_mirrors : MethodName := ⟨RX2, "mirrors", "()I"⟩
def dkwX2_mirrors_1 : List UInt8 := [96, 60, 132, 2, 1, 167, 255, 231, 27, 172]
abbrev dktX2_mirrors_1 : List UInt8 := dkwX2_mirrors_1 ++ []
def dkwX2_mirrors_0 : List UInt8 := [3, 60, 3, 61, 28, 16, 30, 162, 0, 25, 27, 42, 28, 182, 1, 172, 153, 0, 7, 4, 167, 0, 4, 3]
abbrev dktX2_mirrors_0 : List UInt8 := dkwX2_mirrors_0 ++ dktX2_mirrors_1
theorem dksX2_mirrors_0 : cX2_mirrors.data.toList.drop 0 = dktX2_mirrors_0 := by decide +kernel
theorem dksX2_mirrors_1 : cX2_mirrors.data.toList.drop 24 = dktX2_mirrors_1 := dk_seg dksX2_mirrors_0 24 rfl rfl
theorem dX2_mirrors_0 : decode cX2_mirrors 0 = .ok (.iconst 0, 1) := dk_3 (dk_at dksX2_mirrors_0 0 rfl rfl)
theorem dX2_mirrors_1 : decode cX2_mirrors 1 = .ok (.istore_n 1, 1) := dk_60 (dk_at dksX2_mirrors_0 1 rfl rfl)
theorem dX2_mirrors_2 : decode cX2_mirrors 2 = .ok (.iconst 0, 1) := dk_3 (dk_at dksX2_mirrors_0 2 rfl rfl)
theorem dX2_mirrors_3 : decode cX2_mirrors 3 = .ok (.istore_n 2, 1) := dk_61 (dk_at dksX2_mirrors_0 3 rfl rfl)
theorem dX2_mirrors_4 : decode cX2_mirrors 4 = .ok (.iload_n 2, 1) := dk_28 (dk_at dksX2_mirrors_0 4 rfl rfl)
theorem dX2_mirrors_5 : decode cX2_mirrors 5 = .ok (.bipush 30, 2) := dk_16 30 (dk_at dksX2_mirrors_0 5 rfl rfl)
theorem dX2_mirrors_7 : decode cX2_mirrors 7 = .ok (.if_icmp .ge 25, 3) := dk_162 0 25 (dk_at dksX2_mirrors_0 7 rfl rfl)
theorem dX2_mirrors_10 : decode cX2_mirrors 10 = .ok (.iload_n 1, 1) := dk_27 (dk_at dksX2_mirrors_0 10 rfl rfl)
theorem dX2_mirrors_11 : decode cX2_mirrors 11 = .ok (.aload_n 0, 1) := dk_42 (dk_at dksX2_mirrors_0 11 rfl rfl)
theorem dX2_mirrors_12 : decode cX2_mirrors 12 = .ok (.iload_n 2, 1) := dk_28 (dk_at dksX2_mirrors_0 12 rfl rfl)
theorem dX2_mirrors_13 : decode cX2_mirrors 13 = .ok (.invokevirtual 428, 3) := dk_182 1 172 (dk_at dksX2_mirrors_0 13 rfl rfl)
theorem dX2_mirrors_16 : decode cX2_mirrors 16 = .ok (.ifCond .eq 7, 3) := dk_153 0 7 (dk_at dksX2_mirrors_0 16 rfl rfl)
theorem dX2_mirrors_19 : decode cX2_mirrors 19 = .ok (.iconst 1, 1) := dk_4 (dk_at dksX2_mirrors_0 19 rfl rfl)
theorem dX2_mirrors_20 : decode cX2_mirrors 20 = .ok (.goto 4, 3) := dk_167 0 4 (dk_at dksX2_mirrors_0 20 rfl rfl)
theorem dX2_mirrors_23 : decode cX2_mirrors 23 = .ok (.iconst 0, 1) := dk_3 (dk_at dksX2_mirrors_0 23 rfl rfl)
theorem dX2_mirrors_24 : decode cX2_mirrors 24 = .ok (.iadd, 1) := dk_96 (dk_at dksX2_mirrors_1 0 rfl rfl)
theorem dX2_mirrors_25 : decode cX2_mirrors 25 = .ok (.istore_n 1, 1) := dk_60 (dk_at dksX2_mirrors_1 1 rfl rfl)
theorem dX2_mirrors_26 : decode cX2_mirrors 26 = .ok (.iinc 2 1, 3) := dk_132 2 1 (dk_at dksX2_mirrors_1 2 rfl rfl)
theorem dX2_mirrors_29 : decode cX2_mirrors 29 = .ok (.goto (-25), 3) := dk_167 255 231 (dk_at dksX2_mirrors_1 5 rfl rfl)
theorem dX2_mirrors_32 : decode cX2_mirrors 32 = .ok (.iload_n 1, 1) := dk_27 (dk_at dksX2_mirrors_1 8 rfl rfl)
theorem dX2_mirrors_33 : decode cX2_mirrors 33 = .ok (.ireturn, 1) := dk_172 (dk_at dksX2_mirrors_1 9 rfl rfl)
abbrev cX2_isMirror : ByteArray := prog_20_method_129_code
def yX2_isMirror : MethodName := ⟨RX2, "isMirror", "(I)Z"⟩
def dkwX2_isMirror_1 : List UInt8 := [28, 100, 16, 30, 96, 16, 30, 112, 96, 46, 159, 0, 5, 3, 172, 132, 2, 1, 167, 255, 216, 4, 172]
abbrev dktX2_isMirror_1 : List UInt8 := dkwX2_isMirror_1 ++ []
def dkwX2_isMirror_0 : List UInt8 := [3, 61, 28, 16, 30, 162, 0, 40, 42, 180, 0, 7, 16, 9, 28, 96, 46, 42, 180, 0, 7, 16, 9, 27]
abbrev dktX2_isMirror_0 : List UInt8 := dkwX2_isMirror_0 ++ dktX2_isMirror_1
theorem dksX2_isMirror_0 : cX2_isMirror.data.toList.drop 0 = dktX2_isMirror_0 := by decide +kernel
theorem dksX2_isMirror_1 : cX2_isMirror.data.toList.drop 24 = dktX2_isMirror_1 := dk_seg dksX2_isMirror_0 24 rfl rfl
theorem dX2_isMirror_0 : decode cX2_isMirror 0 = .ok (.iconst 0, 1) := dk_3 (dk_at dksX2_isMirror_0 0 rfl rfl)
theorem dX2_isMirror_1 : decode cX2_isMirror 1 = .ok (.istore_n 2, 1) := dk_61 (dk_at dksX2_isMirror_0 1 rfl rfl)
theorem dX2_isMirror_2 : decode cX2_isMirror 2 = .ok (.iload_n 2, 1) := dk_28 (dk_at dksX2_isMirror_0 2 rfl rfl)
theorem dX2_isMirror_3 : decode cX2_isMirror 3 = .ok (.bipush 30, 2) := dk_16 30 (dk_at dksX2_isMirror_0 3 rfl rfl)
theorem dX2_isMirror_5 : decode cX2_isMirror 5 = .ok (.if_icmp .ge 40, 3) := dk_162 0 40 (dk_at dksX2_isMirror_0 5 rfl rfl)
theorem dX2_isMirror_8 : decode cX2_isMirror 8 = .ok (.aload_n 0, 1) := dk_42 (dk_at dksX2_isMirror_0 8 rfl rfl)
theorem dX2_isMirror_9 : decode cX2_isMirror 9 = .ok (.getfield 7, 3) := dk_180 0 7 (dk_at dksX2_isMirror_0 9 rfl rfl)
theorem dX2_isMirror_12 : decode cX2_isMirror 12 = .ok (.bipush 9, 2) := dk_16 9 (dk_at dksX2_isMirror_0 12 rfl rfl)
theorem dX2_isMirror_14 : decode cX2_isMirror 14 = .ok (.iload_n 2, 1) := dk_28 (dk_at dksX2_isMirror_0 14 rfl rfl)
theorem dX2_isMirror_15 : decode cX2_isMirror 15 = .ok (.iadd, 1) := dk_96 (dk_at dksX2_isMirror_0 15 rfl rfl)
theorem dX2_isMirror_16 : decode cX2_isMirror 16 = .ok (.iaload, 1) := dk_46 (dk_at dksX2_isMirror_0 16 rfl rfl)
theorem dX2_isMirror_17 : decode cX2_isMirror 17 = .ok (.aload_n 0, 1) := dk_42 (dk_at dksX2_isMirror_0 17 rfl rfl)
theorem dX2_isMirror_18 : decode cX2_isMirror 18 = .ok (.getfield 7, 3) := dk_180 0 7 (dk_at dksX2_isMirror_0 18 rfl rfl)
theorem dX2_isMirror_21 : decode cX2_isMirror 21 = .ok (.bipush 9, 2) := dk_16 9 (dk_at dksX2_isMirror_0 21 rfl rfl)
theorem dX2_isMirror_23 : decode cX2_isMirror 23 = .ok (.iload_n 1, 1) := dk_27 (dk_at dksX2_isMirror_0 23 rfl rfl)
theorem dX2_isMirror_24 : decode cX2_isMirror 24 = .ok (.iload_n 2, 1) := dk_28 (dk_at dksX2_isMirror_1 0 rfl rfl)
theorem dX2_isMirror_25 : decode cX2_isMirror 25 = .ok (.isub, 1) := dk_100 (dk_at dksX2_isMirror_1 1 rfl rfl)
theorem dX2_isMirror_26 : decode cX2_isMirror 26 = .ok (.bipush 30, 2) := dk_16 30 (dk_at dksX2_isMirror_1 2 rfl rfl)
theorem dX2_isMirror_28 : decode cX2_isMirror 28 = .ok (.iadd, 1) := dk_96 (dk_at dksX2_isMirror_1 4 rfl rfl)
theorem dX2_isMirror_29 : decode cX2_isMirror 29 = .ok (.bipush 30, 2) := dk_16 30 (dk_at dksX2_isMirror_1 5 rfl rfl)
theorem dX2_isMirror_31 : decode cX2_isMirror 31 = .ok (.irem, 1) := dk_112 (dk_at dksX2_isMirror_1 7 rfl rfl)
theorem dX2_isMirror_32 : decode cX2_isMirror 32 = .ok (.iadd, 1) := dk_96 (dk_at dksX2_isMirror_1 8 rfl rfl)
theorem dX2_isMirror_33 : decode cX2_isMirror 33 = .ok (.iaload, 1) := dk_46 (dk_at dksX2_isMirror_1 9 rfl rfl)
theorem dX2_isMirror_34 : decode cX2_isMirror 34 = .ok (.if_icmp .eq 5, 3) := dk_159 0 5 (dk_at dksX2_isMirror_1 10 rfl rfl)
theorem dX2_isMirror_37 : decode cX2_isMirror 37 = .ok (.iconst 0, 1) := dk_3 (dk_at dksX2_isMirror_1 13 rfl rfl)
theorem dX2_isMirror_38 : decode cX2_isMirror 38 = .ok (.ireturn, 1) := dk_172 (dk_at dksX2_isMirror_1 14 rfl rfl)
theorem dX2_isMirror_39 : decode cX2_isMirror 39 = .ok (.iinc 2 1, 3) := dk_132 2 1 (dk_at dksX2_isMirror_1 15 rfl rfl)
theorem dX2_isMirror_42 : decode cX2_isMirror 42 = .ok (.goto (-40), 3) := dk_167 255 216 (dk_at dksX2_isMirror_1 18 rfl rfl)
theorem dX2_isMirror_45 : decode cX2_isMirror 45 = .ok (.iconst 1, 1) := dk_4 (dk_at dksX2_isMirror_1 21 rfl rfl)
theorem dX2_isMirror_46 : decode cX2_isMirror 46 = .ok (.ireturn, 1) := dk_172 (dk_at dksX2_isMirror_1 22 rfl rfl)
abbrev cX2_longest : ByteArray := prog_20_method_131_code
def yX2_longest : MethodName := ⟨RX2, "longest", "(IZ)I"⟩
def dkwX2_longest_3 : List UInt8 := [21, 6, 62, 21, 5, 54, 4, 132, 5, 1, 167, 255, 194, 28, 153, 0, 8, 21, 4, 167, 0, 4, 29, 172]
abbrev dktX2_longest_3 : List UInt8 := dkwX2_longest_3 ++ []
def dkwX2_longest_2 : List UInt8 := [16, 30, 112, 96, 46, 27, 160, 0, 9, 132, 6, 1, 167, 255, 226, 21, 6, 29, 163, 0, 6, 167, 0, 10]
abbrev dktX2_longest_2 : List UInt8 := dkwX2_longest_2 ++ dktX2_longest_3
def dkwX2_longest_1 : List UInt8 := [162, 0, 61, 3, 54, 6, 21, 6, 16, 30, 162, 0, 29, 42, 180, 0, 7, 16, 9, 21, 5, 21, 6, 96]
abbrev dktX2_longest_1 : List UInt8 := dkwX2_longest_1 ++ dktX2_longest_2
def dkwX2_longest_0 : List UInt8 := [27, 3, 6, 184, 0, 69, 154, 0, 6, 16, 254, 172, 3, 62, 2, 54, 4, 3, 54, 5, 21, 5, 16, 30]
abbrev dktX2_longest_0 : List UInt8 := dkwX2_longest_0 ++ dktX2_longest_1
theorem dksX2_longest_0 : cX2_longest.data.toList.drop 0 = dktX2_longest_0 := by decide +kernel
theorem dksX2_longest_1 : cX2_longest.data.toList.drop 24 = dktX2_longest_1 := dk_seg dksX2_longest_0 24 rfl rfl
theorem dksX2_longest_2 : cX2_longest.data.toList.drop 48 = dktX2_longest_2 := dk_seg dksX2_longest_1 24 rfl rfl
theorem dksX2_longest_3 : cX2_longest.data.toList.drop 72 = dktX2_longest_3 := dk_seg dksX2_longest_2 24 rfl rfl
theorem dX2_longest_0 : decode cX2_longest 0 = .ok (.iload_n 1, 1) := dk_27 (dk_at dksX2_longest_0 0 rfl rfl)
theorem dX2_longest_1 : decode cX2_longest 1 = .ok (.iconst 0, 1) := dk_3 (dk_at dksX2_longest_0 1 rfl rfl)
theorem dX2_longest_2 : decode cX2_longest 2 = .ok (.iconst 3, 1) := dk_6 (dk_at dksX2_longest_0 2 rfl rfl)
theorem dX2_longest_3 : decode cX2_longest 3 = .ok (.invokestatic 69, 3) := dk_184 0 69 (dk_at dksX2_longest_0 3 rfl rfl)
theorem dX2_longest_6 : decode cX2_longest 6 = .ok (.ifCond .ne 6, 3) := dk_154 0 6 (dk_at dksX2_longest_0 6 rfl rfl)
theorem dX2_longest_9 : decode cX2_longest 9 = .ok (.bipush (-2), 2) := dk_16 254 (dk_at dksX2_longest_0 9 rfl rfl)
theorem dX2_longest_11 : decode cX2_longest 11 = .ok (.ireturn, 1) := dk_172 (dk_at dksX2_longest_0 11 rfl rfl)
theorem dX2_longest_12 : decode cX2_longest 12 = .ok (.iconst 0, 1) := dk_3 (dk_at dksX2_longest_0 12 rfl rfl)
theorem dX2_longest_13 : decode cX2_longest 13 = .ok (.istore_n 3, 1) := dk_62 (dk_at dksX2_longest_0 13 rfl rfl)
theorem dX2_longest_14 : decode cX2_longest 14 = .ok (.iconst (-1), 1) := dk_2 (dk_at dksX2_longest_0 14 rfl rfl)
theorem dX2_longest_15 : decode cX2_longest 15 = .ok (.istore 4, 2) := dk_54 4 (dk_at dksX2_longest_0 15 rfl rfl)
theorem dX2_longest_17 : decode cX2_longest 17 = .ok (.iconst 0, 1) := dk_3 (dk_at dksX2_longest_0 17 rfl rfl)
theorem dX2_longest_18 : decode cX2_longest 18 = .ok (.istore 5, 2) := dk_54 5 (dk_at dksX2_longest_0 18 rfl rfl)
theorem dX2_longest_20 : decode cX2_longest 20 = .ok (.iload 5, 2) := dk_21 5 (dk_at dksX2_longest_0 20 rfl rfl)
theorem dX2_longest_22 : decode cX2_longest 22 = .ok (.bipush 30, 2) := dk_16 30 (dk_at dksX2_longest_0 22 rfl rfl)
theorem dX2_longest_24 : decode cX2_longest 24 = .ok (.if_icmp .ge 61, 3) := dk_162 0 61 (dk_at dksX2_longest_1 0 rfl rfl)
theorem dX2_longest_27 : decode cX2_longest 27 = .ok (.iconst 0, 1) := dk_3 (dk_at dksX2_longest_1 3 rfl rfl)
theorem dX2_longest_28 : decode cX2_longest 28 = .ok (.istore 6, 2) := dk_54 6 (dk_at dksX2_longest_1 4 rfl rfl)
theorem dX2_longest_30 : decode cX2_longest 30 = .ok (.iload 6, 2) := dk_21 6 (dk_at dksX2_longest_1 6 rfl rfl)
theorem dX2_longest_32 : decode cX2_longest 32 = .ok (.bipush 30, 2) := dk_16 30 (dk_at dksX2_longest_1 8 rfl rfl)
theorem dX2_longest_34 : decode cX2_longest 34 = .ok (.if_icmp .ge 29, 3) := dk_162 0 29 (dk_at dksX2_longest_1 10 rfl rfl)
theorem dX2_longest_37 : decode cX2_longest 37 = .ok (.aload_n 0, 1) := dk_42 (dk_at dksX2_longest_1 13 rfl rfl)
theorem dX2_longest_38 : decode cX2_longest 38 = .ok (.getfield 7, 3) := dk_180 0 7 (dk_at dksX2_longest_1 14 rfl rfl)
theorem dX2_longest_41 : decode cX2_longest 41 = .ok (.bipush 9, 2) := dk_16 9 (dk_at dksX2_longest_1 17 rfl rfl)
theorem dX2_longest_43 : decode cX2_longest 43 = .ok (.iload 5, 2) := dk_21 5 (dk_at dksX2_longest_1 19 rfl rfl)
theorem dX2_longest_45 : decode cX2_longest 45 = .ok (.iload 6, 2) := dk_21 6 (dk_at dksX2_longest_1 21 rfl rfl)
theorem dX2_longest_47 : decode cX2_longest 47 = .ok (.iadd, 1) := dk_96 (dk_at dksX2_longest_1 23 rfl rfl)
theorem dX2_longest_48 : decode cX2_longest 48 = .ok (.bipush 30, 2) := dk_16 30 (dk_at dksX2_longest_2 0 rfl rfl)
theorem dX2_longest_50 : decode cX2_longest 50 = .ok (.irem, 1) := dk_112 (dk_at dksX2_longest_2 2 rfl rfl)
theorem dX2_longest_51 : decode cX2_longest 51 = .ok (.iadd, 1) := dk_96 (dk_at dksX2_longest_2 3 rfl rfl)
theorem dX2_longest_52 : decode cX2_longest 52 = .ok (.iaload, 1) := dk_46 (dk_at dksX2_longest_2 4 rfl rfl)
theorem dX2_longest_53 : decode cX2_longest 53 = .ok (.iload_n 1, 1) := dk_27 (dk_at dksX2_longest_2 5 rfl rfl)
theorem dX2_longest_54 : decode cX2_longest 54 = .ok (.if_icmp .ne 9, 3) := dk_160 0 9 (dk_at dksX2_longest_2 6 rfl rfl)
theorem dX2_longest_57 : decode cX2_longest 57 = .ok (.iinc 6 1, 3) := dk_132 6 1 (dk_at dksX2_longest_2 9 rfl rfl)
theorem dX2_longest_60 : decode cX2_longest 60 = .ok (.goto (-30), 3) := dk_167 255 226 (dk_at dksX2_longest_2 12 rfl rfl)
theorem dX2_longest_63 : decode cX2_longest 63 = .ok (.iload 6, 2) := dk_21 6 (dk_at dksX2_longest_2 15 rfl rfl)
theorem dX2_longest_65 : decode cX2_longest 65 = .ok (.iload_n 3, 1) := dk_29 (dk_at dksX2_longest_2 17 rfl rfl)
theorem dX2_longest_66 : decode cX2_longest 66 = .ok (.if_icmp .gt 6, 3) := dk_163 0 6 (dk_at dksX2_longest_2 18 rfl rfl)
theorem dX2_longest_69 : decode cX2_longest 69 = .ok (.goto 10, 3) := dk_167 0 10 (dk_at dksX2_longest_2 21 rfl rfl)
theorem dX2_longest_72 : decode cX2_longest 72 = .ok (.iload 6, 2) := dk_21 6 (dk_at dksX2_longest_3 0 rfl rfl)
theorem dX2_longest_74 : decode cX2_longest 74 = .ok (.istore_n 3, 1) := dk_62 (dk_at dksX2_longest_3 2 rfl rfl)
theorem dX2_longest_75 : decode cX2_longest 75 = .ok (.iload 5, 2) := dk_21 5 (dk_at dksX2_longest_3 3 rfl rfl)
theorem dX2_longest_77 : decode cX2_longest 77 = .ok (.istore 4, 2) := dk_54 4 (dk_at dksX2_longest_3 5 rfl rfl)
theorem dX2_longest_79 : decode cX2_longest 79 = .ok (.iinc 5 1, 3) := dk_132 5 1 (dk_at dksX2_longest_3 7 rfl rfl)
theorem dX2_longest_82 : decode cX2_longest 82 = .ok (.goto (-62), 3) := dk_167 255 194 (dk_at dksX2_longest_3 10 rfl rfl)
theorem dX2_longest_85 : decode cX2_longest 85 = .ok (.iload_n 2, 1) := dk_28 (dk_at dksX2_longest_3 13 rfl rfl)
theorem dX2_longest_86 : decode cX2_longest 86 = .ok (.ifCond .eq 8, 3) := dk_153 0 8 (dk_at dksX2_longest_3 14 rfl rfl)
theorem dX2_longest_89 : decode cX2_longest 89 = .ok (.iload 4, 2) := dk_21 4 (dk_at dksX2_longest_3 17 rfl rfl)
theorem dX2_longest_91 : decode cX2_longest 91 = .ok (.goto 4, 3) := dk_167 0 4 (dk_at dksX2_longest_3 19 rfl rfl)
theorem dX2_longest_94 : decode cX2_longest 94 = .ok (.iload_n 3, 1) := dk_29 (dk_at dksX2_longest_3 22 rfl rfl)
theorem dX2_longest_95 : decode cX2_longest 95 = .ok (.ireturn, 1) := dk_172 (dk_at dksX2_longest_3 23 rfl rfl)
abbrev cX2_arc : ByteArray := prog_20_method_132_code
def yX2_arc : MethodName := ⟨RX2, "arc", "(I)I"⟩
def dkwX2_arc_1 : List UInt8 := [27, 182, 1, 108, 42, 28, 27, 182, 1, 108, 164, 0, 5, 29, 61, 132, 3, 1, 167, 255, 230, 28, 172]
abbrev dktX2_arc_1 : List UInt8 := dkwX2_arc_1 ++ []
def dkwX2_arc_0 : List UInt8 := [27, 4, 16, 30, 184, 0, 69, 154, 0, 5, 2, 172, 3, 61, 4, 62, 29, 16, 30, 162, 0, 26, 42, 29]
abbrev dktX2_arc_0 : List UInt8 := dkwX2_arc_0 ++ dktX2_arc_1
theorem dksX2_arc_0 : cX2_arc.data.toList.drop 0 = dktX2_arc_0 := by decide +kernel
theorem dksX2_arc_1 : cX2_arc.data.toList.drop 24 = dktX2_arc_1 := dk_seg dksX2_arc_0 24 rfl rfl
theorem dX2_arc_0 : decode cX2_arc 0 = .ok (.iload_n 1, 1) := dk_27 (dk_at dksX2_arc_0 0 rfl rfl)
theorem dX2_arc_1 : decode cX2_arc 1 = .ok (.iconst 1, 1) := dk_4 (dk_at dksX2_arc_0 1 rfl rfl)
theorem dX2_arc_2 : decode cX2_arc 2 = .ok (.bipush 30, 2) := dk_16 30 (dk_at dksX2_arc_0 2 rfl rfl)
theorem dX2_arc_4 : decode cX2_arc 4 = .ok (.invokestatic 69, 3) := dk_184 0 69 (dk_at dksX2_arc_0 4 rfl rfl)
theorem dX2_arc_7 : decode cX2_arc 7 = .ok (.ifCond .ne 5, 3) := dk_154 0 5 (dk_at dksX2_arc_0 7 rfl rfl)
theorem dX2_arc_10 : decode cX2_arc 10 = .ok (.iconst (-1), 1) := dk_2 (dk_at dksX2_arc_0 10 rfl rfl)
theorem dX2_arc_11 : decode cX2_arc 11 = .ok (.ireturn, 1) := dk_172 (dk_at dksX2_arc_0 11 rfl rfl)
theorem dX2_arc_12 : decode cX2_arc 12 = .ok (.iconst 0, 1) := dk_3 (dk_at dksX2_arc_0 12 rfl rfl)
theorem dX2_arc_13 : decode cX2_arc 13 = .ok (.istore_n 2, 1) := dk_61 (dk_at dksX2_arc_0 13 rfl rfl)
theorem dX2_arc_14 : decode cX2_arc 14 = .ok (.iconst 1, 1) := dk_4 (dk_at dksX2_arc_0 14 rfl rfl)
theorem dX2_arc_15 : decode cX2_arc 15 = .ok (.istore_n 3, 1) := dk_62 (dk_at dksX2_arc_0 15 rfl rfl)
theorem dX2_arc_16 : decode cX2_arc 16 = .ok (.iload_n 3, 1) := dk_29 (dk_at dksX2_arc_0 16 rfl rfl)
theorem dX2_arc_17 : decode cX2_arc 17 = .ok (.bipush 30, 2) := dk_16 30 (dk_at dksX2_arc_0 17 rfl rfl)
theorem dX2_arc_19 : decode cX2_arc 19 = .ok (.if_icmp .ge 26, 3) := dk_162 0 26 (dk_at dksX2_arc_0 19 rfl rfl)
theorem dX2_arc_22 : decode cX2_arc 22 = .ok (.aload_n 0, 1) := dk_42 (dk_at dksX2_arc_0 22 rfl rfl)
theorem dX2_arc_23 : decode cX2_arc 23 = .ok (.iload_n 3, 1) := dk_29 (dk_at dksX2_arc_0 23 rfl rfl)
theorem dX2_arc_24 : decode cX2_arc 24 = .ok (.iload_n 1, 1) := dk_27 (dk_at dksX2_arc_1 0 rfl rfl)
theorem dX2_arc_25 : decode cX2_arc 25 = .ok (.invokevirtual 364, 3) := dk_182 1 108 (dk_at dksX2_arc_1 1 rfl rfl)
theorem dX2_arc_28 : decode cX2_arc 28 = .ok (.aload_n 0, 1) := dk_42 (dk_at dksX2_arc_1 4 rfl rfl)
theorem dX2_arc_29 : decode cX2_arc 29 = .ok (.iload_n 2, 1) := dk_28 (dk_at dksX2_arc_1 5 rfl rfl)
theorem dX2_arc_30 : decode cX2_arc 30 = .ok (.iload_n 1, 1) := dk_27 (dk_at dksX2_arc_1 6 rfl rfl)
theorem dX2_arc_31 : decode cX2_arc 31 = .ok (.invokevirtual 364, 3) := dk_182 1 108 (dk_at dksX2_arc_1 7 rfl rfl)
theorem dX2_arc_34 : decode cX2_arc 34 = .ok (.if_icmp .le 5, 3) := dk_164 0 5 (dk_at dksX2_arc_1 10 rfl rfl)
theorem dX2_arc_37 : decode cX2_arc 37 = .ok (.iload_n 3, 1) := dk_29 (dk_at dksX2_arc_1 13 rfl rfl)
theorem dX2_arc_38 : decode cX2_arc 38 = .ok (.istore_n 2, 1) := dk_61 (dk_at dksX2_arc_1 14 rfl rfl)
theorem dX2_arc_39 : decode cX2_arc 39 = .ok (.iinc 3 1, 3) := dk_132 3 1 (dk_at dksX2_arc_1 15 rfl rfl)
theorem dX2_arc_42 : decode cX2_arc 42 = .ok (.goto (-26), 3) := dk_167 255 230 (dk_at dksX2_arc_1 18 rfl rfl)
theorem dX2_arc_45 : decode cX2_arc 45 = .ok (.iload_n 2, 1) := dk_28 (dk_at dksX2_arc_1 21 rfl rfl)
theorem dX2_arc_46 : decode cX2_arc 46 = .ok (.ireturn, 1) := dk_172 (dk_at dksX2_arc_1 22 rfl rfl)
abbrev cX2_quiet : ByteArray := prog_20_method_133_code
def yX2_quiet : MethodName := ⟨RX2, "quiet", "(I)I"⟩
def dkwX2_quiet_1 : List UInt8 := [29, 27, 182, 1, 108, 154, 0, 7, 4, 167, 0, 4, 3, 96, 61, 132, 3, 1, 167, 255, 230, 28, 172]
abbrev dktX2_quiet_1 : List UInt8 := dkwX2_quiet_1 ++ []
def dkwX2_quiet_0 : List UInt8 := [27, 4, 16, 30, 184, 0, 69, 154, 0, 5, 2, 172, 3, 61, 3, 62, 29, 16, 30, 162, 0, 26, 28, 42]
abbrev dktX2_quiet_0 : List UInt8 := dkwX2_quiet_0 ++ dktX2_quiet_1
theorem dksX2_quiet_0 : cX2_quiet.data.toList.drop 0 = dktX2_quiet_0 := by decide +kernel
theorem dksX2_quiet_1 : cX2_quiet.data.toList.drop 24 = dktX2_quiet_1 := dk_seg dksX2_quiet_0 24 rfl rfl
theorem dX2_quiet_0 : decode cX2_quiet 0 = .ok (.iload_n 1, 1) := dk_27 (dk_at dksX2_quiet_0 0 rfl rfl)
theorem dX2_quiet_1 : decode cX2_quiet 1 = .ok (.iconst 1, 1) := dk_4 (dk_at dksX2_quiet_0 1 rfl rfl)
theorem dX2_quiet_2 : decode cX2_quiet 2 = .ok (.bipush 30, 2) := dk_16 30 (dk_at dksX2_quiet_0 2 rfl rfl)
theorem dX2_quiet_4 : decode cX2_quiet 4 = .ok (.invokestatic 69, 3) := dk_184 0 69 (dk_at dksX2_quiet_0 4 rfl rfl)
theorem dX2_quiet_7 : decode cX2_quiet 7 = .ok (.ifCond .ne 5, 3) := dk_154 0 5 (dk_at dksX2_quiet_0 7 rfl rfl)
theorem dX2_quiet_10 : decode cX2_quiet 10 = .ok (.iconst (-1), 1) := dk_2 (dk_at dksX2_quiet_0 10 rfl rfl)
theorem dX2_quiet_11 : decode cX2_quiet 11 = .ok (.ireturn, 1) := dk_172 (dk_at dksX2_quiet_0 11 rfl rfl)
theorem dX2_quiet_12 : decode cX2_quiet 12 = .ok (.iconst 0, 1) := dk_3 (dk_at dksX2_quiet_0 12 rfl rfl)
theorem dX2_quiet_13 : decode cX2_quiet 13 = .ok (.istore_n 2, 1) := dk_61 (dk_at dksX2_quiet_0 13 rfl rfl)
theorem dX2_quiet_14 : decode cX2_quiet 14 = .ok (.iconst 0, 1) := dk_3 (dk_at dksX2_quiet_0 14 rfl rfl)
theorem dX2_quiet_15 : decode cX2_quiet 15 = .ok (.istore_n 3, 1) := dk_62 (dk_at dksX2_quiet_0 15 rfl rfl)
theorem dX2_quiet_16 : decode cX2_quiet 16 = .ok (.iload_n 3, 1) := dk_29 (dk_at dksX2_quiet_0 16 rfl rfl)
theorem dX2_quiet_17 : decode cX2_quiet 17 = .ok (.bipush 30, 2) := dk_16 30 (dk_at dksX2_quiet_0 17 rfl rfl)
theorem dX2_quiet_19 : decode cX2_quiet 19 = .ok (.if_icmp .ge 26, 3) := dk_162 0 26 (dk_at dksX2_quiet_0 19 rfl rfl)
theorem dX2_quiet_22 : decode cX2_quiet 22 = .ok (.iload_n 2, 1) := dk_28 (dk_at dksX2_quiet_0 22 rfl rfl)
theorem dX2_quiet_23 : decode cX2_quiet 23 = .ok (.aload_n 0, 1) := dk_42 (dk_at dksX2_quiet_0 23 rfl rfl)
theorem dX2_quiet_24 : decode cX2_quiet 24 = .ok (.iload_n 3, 1) := dk_29 (dk_at dksX2_quiet_1 0 rfl rfl)
theorem dX2_quiet_25 : decode cX2_quiet 25 = .ok (.iload_n 1, 1) := dk_27 (dk_at dksX2_quiet_1 1 rfl rfl)
theorem dX2_quiet_26 : decode cX2_quiet 26 = .ok (.invokevirtual 364, 3) := dk_182 1 108 (dk_at dksX2_quiet_1 2 rfl rfl)
theorem dX2_quiet_29 : decode cX2_quiet 29 = .ok (.ifCond .ne 7, 3) := dk_154 0 7 (dk_at dksX2_quiet_1 5 rfl rfl)
theorem dX2_quiet_32 : decode cX2_quiet 32 = .ok (.iconst 1, 1) := dk_4 (dk_at dksX2_quiet_1 8 rfl rfl)
theorem dX2_quiet_33 : decode cX2_quiet 33 = .ok (.goto 4, 3) := dk_167 0 4 (dk_at dksX2_quiet_1 9 rfl rfl)
theorem dX2_quiet_36 : decode cX2_quiet 36 = .ok (.iconst 0, 1) := dk_3 (dk_at dksX2_quiet_1 12 rfl rfl)
theorem dX2_quiet_37 : decode cX2_quiet 37 = .ok (.iadd, 1) := dk_96 (dk_at dksX2_quiet_1 13 rfl rfl)
theorem dX2_quiet_38 : decode cX2_quiet 38 = .ok (.istore_n 2, 1) := dk_61 (dk_at dksX2_quiet_1 14 rfl rfl)
theorem dX2_quiet_39 : decode cX2_quiet 39 = .ok (.iinc 3 1, 3) := dk_132 3 1 (dk_at dksX2_quiet_1 15 rfl rfl)
theorem dX2_quiet_42 : decode cX2_quiet 42 = .ok (.goto (-26), 3) := dk_167 255 230 (dk_at dksX2_quiet_1 18 rfl rfl)
theorem dX2_quiet_45 : decode cX2_quiet 45 = .ok (.iload_n 2, 1) := dk_28 (dk_at dksX2_quiet_1 21 rfl rfl)
theorem dX2_quiet_46 : decode cX2_quiet 46 = .ok (.ireturn, 1) := dk_172 (dk_at dksX2_quiet_1 22 rfl rfl)
abbrev cX2_changed : ByteArray := prog_20_method_134_code
def yX2_changed : MethodName := ⟨RX2, "changed", "()I"⟩
def dkwX2_changed_2 : List UInt8 := [172]
abbrev dktX2_changed_2 : List UInt8 := dkwX2_changed_2 ++ []
def dkwX2_changed_1 : List UInt8 := [16, 9, 28, 96, 46, 159, 0, 9, 4, 28, 120, 167, 0, 4, 3, 128, 60, 132, 2, 1, 167, 255, 216, 27]
abbrev dktX2_changed_1 : List UInt8 := dkwX2_changed_1 ++ dktX2_changed_2
def dkwX2_changed_0 : List UInt8 := [3, 60, 3, 61, 28, 16, 30, 162, 0, 40, 27, 42, 180, 0, 7, 16, 9, 28, 96, 46, 42, 180, 0, 13]
abbrev dktX2_changed_0 : List UInt8 := dkwX2_changed_0 ++ dktX2_changed_1
theorem dksX2_changed_0 : cX2_changed.data.toList.drop 0 = dktX2_changed_0 := by decide +kernel
theorem dksX2_changed_1 : cX2_changed.data.toList.drop 24 = dktX2_changed_1 := dk_seg dksX2_changed_0 24 rfl rfl
theorem dksX2_changed_2 : cX2_changed.data.toList.drop 48 = dktX2_changed_2 := dk_seg dksX2_changed_1 24 rfl rfl
theorem dX2_changed_0 : decode cX2_changed 0 = .ok (.iconst 0, 1) := dk_3 (dk_at dksX2_changed_0 0 rfl rfl)
theorem dX2_changed_1 : decode cX2_changed 1 = .ok (.istore_n 1, 1) := dk_60 (dk_at dksX2_changed_0 1 rfl rfl)
theorem dX2_changed_2 : decode cX2_changed 2 = .ok (.iconst 0, 1) := dk_3 (dk_at dksX2_changed_0 2 rfl rfl)
theorem dX2_changed_3 : decode cX2_changed 3 = .ok (.istore_n 2, 1) := dk_61 (dk_at dksX2_changed_0 3 rfl rfl)
theorem dX2_changed_4 : decode cX2_changed 4 = .ok (.iload_n 2, 1) := dk_28 (dk_at dksX2_changed_0 4 rfl rfl)
theorem dX2_changed_5 : decode cX2_changed 5 = .ok (.bipush 30, 2) := dk_16 30 (dk_at dksX2_changed_0 5 rfl rfl)
theorem dX2_changed_7 : decode cX2_changed 7 = .ok (.if_icmp .ge 40, 3) := dk_162 0 40 (dk_at dksX2_changed_0 7 rfl rfl)
theorem dX2_changed_10 : decode cX2_changed 10 = .ok (.iload_n 1, 1) := dk_27 (dk_at dksX2_changed_0 10 rfl rfl)
theorem dX2_changed_11 : decode cX2_changed 11 = .ok (.aload_n 0, 1) := dk_42 (dk_at dksX2_changed_0 11 rfl rfl)
theorem dX2_changed_12 : decode cX2_changed 12 = .ok (.getfield 7, 3) := dk_180 0 7 (dk_at dksX2_changed_0 12 rfl rfl)
theorem dX2_changed_15 : decode cX2_changed 15 = .ok (.bipush 9, 2) := dk_16 9 (dk_at dksX2_changed_0 15 rfl rfl)
theorem dX2_changed_17 : decode cX2_changed 17 = .ok (.iload_n 2, 1) := dk_28 (dk_at dksX2_changed_0 17 rfl rfl)
theorem dX2_changed_18 : decode cX2_changed 18 = .ok (.iadd, 1) := dk_96 (dk_at dksX2_changed_0 18 rfl rfl)
theorem dX2_changed_19 : decode cX2_changed 19 = .ok (.iaload, 1) := dk_46 (dk_at dksX2_changed_0 19 rfl rfl)
theorem dX2_changed_20 : decode cX2_changed 20 = .ok (.aload_n 0, 1) := dk_42 (dk_at dksX2_changed_0 20 rfl rfl)
theorem dX2_changed_21 : decode cX2_changed 21 = .ok (.getfield 13, 3) := dk_180 0 13 (dk_at dksX2_changed_0 21 rfl rfl)
theorem dX2_changed_24 : decode cX2_changed 24 = .ok (.bipush 9, 2) := dk_16 9 (dk_at dksX2_changed_1 0 rfl rfl)
theorem dX2_changed_26 : decode cX2_changed 26 = .ok (.iload_n 2, 1) := dk_28 (dk_at dksX2_changed_1 2 rfl rfl)
theorem dX2_changed_27 : decode cX2_changed 27 = .ok (.iadd, 1) := dk_96 (dk_at dksX2_changed_1 3 rfl rfl)
theorem dX2_changed_28 : decode cX2_changed 28 = .ok (.iaload, 1) := dk_46 (dk_at dksX2_changed_1 4 rfl rfl)
theorem dX2_changed_29 : decode cX2_changed 29 = .ok (.if_icmp .eq 9, 3) := dk_159 0 9 (dk_at dksX2_changed_1 5 rfl rfl)
theorem dX2_changed_32 : decode cX2_changed 32 = .ok (.iconst 1, 1) := dk_4 (dk_at dksX2_changed_1 8 rfl rfl)
theorem dX2_changed_33 : decode cX2_changed 33 = .ok (.iload_n 2, 1) := dk_28 (dk_at dksX2_changed_1 9 rfl rfl)
theorem dX2_changed_34 : decode cX2_changed 34 = .ok (.ishl, 1) := dk_120 (dk_at dksX2_changed_1 10 rfl rfl)
theorem dX2_changed_35 : decode cX2_changed 35 = .ok (.goto 4, 3) := dk_167 0 4 (dk_at dksX2_changed_1 11 rfl rfl)
theorem dX2_changed_38 : decode cX2_changed 38 = .ok (.iconst 0, 1) := dk_3 (dk_at dksX2_changed_1 14 rfl rfl)
theorem dX2_changed_39 : decode cX2_changed 39 = .ok (.ior, 1) := dk_128 (dk_at dksX2_changed_1 15 rfl rfl)
theorem dX2_changed_40 : decode cX2_changed 40 = .ok (.istore_n 1, 1) := dk_60 (dk_at dksX2_changed_1 16 rfl rfl)
theorem dX2_changed_41 : decode cX2_changed 41 = .ok (.iinc 2 1, 3) := dk_132 2 1 (dk_at dksX2_changed_1 17 rfl rfl)
theorem dX2_changed_44 : decode cX2_changed 44 = .ok (.goto (-40), 3) := dk_167 255 216 (dk_at dksX2_changed_1 20 rfl rfl)
theorem dX2_changed_47 : decode cX2_changed 47 = .ok (.iload_n 1, 1) := dk_27 (dk_at dksX2_changed_1 23 rfl rfl)
theorem dX2_changed_48 : decode cX2_changed 48 = .ok (.ireturn, 1) := dk_172 (dk_at dksX2_changed_2 0 rfl rfl)
abbrev cX2_said : ByteArray := prog_20_method_135_code
def yX2_said : MethodName := ⟨RX2, "said", "(III)I"⟩
def dkwX2_said_4 : List UInt8 := [92, 46, 4, 96, 79, 42, 180, 0, 7, 8, 46, 172]
abbrev dktX2_said_4 : List UInt8 := dkwX2_said_4 ++ []
def dkwX2_said_3 : List UInt8 := [180, 0, 7, 21, 4, 4, 96, 28, 79, 42, 180, 0, 7, 21, 4, 5, 96, 29, 79, 42, 180, 0, 7, 8]
abbrev dktX2_said_3 : List UInt8 := dkwX2_said_3 ++ dktX2_said_4
def dkwX2_said_2 : List UInt8 := [16, 121, 6, 42, 180, 0, 7, 8, 46, 104, 96, 54, 4, 42, 180, 0, 7, 21, 4, 27, 79, 42]
abbrev dktX2_said_2 : List UInt8 := dkwX2_said_2 ++ dktX2_said_3
def dkwX2_said_1 : List UInt8 := [3, 16, 10, 184, 0, 69, 153, 0, 14, 42, 180, 0, 7, 8, 46, 16, 8, 160, 0, 6, 16, 254, 172]
abbrev dktX2_said_1 : List UInt8 := dkwX2_said_1 ++ dktX2_said_2
def dkwX2_said_0 : List UInt8 := [27, 2, 160, 0, 12, 42, 180, 0, 7, 8, 3, 79, 3, 172, 42, 27, 28, 182, 1, 131, 153, 0, 24, 29]
abbrev dktX2_said_0 : List UInt8 := dkwX2_said_0 ++ dktX2_said_1
theorem dksX2_said_0 : cX2_said.data.toList.drop 0 = dktX2_said_0 := by decide +kernel
theorem dksX2_said_1 : cX2_said.data.toList.drop 24 = dktX2_said_1 := dk_seg dksX2_said_0 24 rfl rfl
theorem dksX2_said_2 : cX2_said.data.toList.drop 47 = dktX2_said_2 := dk_seg dksX2_said_1 23 rfl rfl
theorem dksX2_said_3 : cX2_said.data.toList.drop 69 = dktX2_said_3 := dk_seg dksX2_said_2 22 rfl rfl
theorem dksX2_said_4 : cX2_said.data.toList.drop 93 = dktX2_said_4 := dk_seg dksX2_said_3 24 rfl rfl
theorem dX2_said_0 : decode cX2_said 0 = .ok (.iload_n 1, 1) := dk_27 (dk_at dksX2_said_0 0 rfl rfl)
theorem dX2_said_1 : decode cX2_said 1 = .ok (.iconst (-1), 1) := dk_2 (dk_at dksX2_said_0 1 rfl rfl)
theorem dX2_said_2 : decode cX2_said 2 = .ok (.if_icmp .ne 12, 3) := dk_160 0 12 (dk_at dksX2_said_0 2 rfl rfl)
theorem dX2_said_5 : decode cX2_said 5 = .ok (.aload_n 0, 1) := dk_42 (dk_at dksX2_said_0 5 rfl rfl)
theorem dX2_said_6 : decode cX2_said 6 = .ok (.getfield 7, 3) := dk_180 0 7 (dk_at dksX2_said_0 6 rfl rfl)
theorem dX2_said_9 : decode cX2_said 9 = .ok (.iconst 5, 1) := dk_8 (dk_at dksX2_said_0 9 rfl rfl)
theorem dX2_said_10 : decode cX2_said 10 = .ok (.iconst 0, 1) := dk_3 (dk_at dksX2_said_0 10 rfl rfl)
theorem dX2_said_11 : decode cX2_said 11 = .ok (.iastore, 1) := dk_79 (dk_at dksX2_said_0 11 rfl rfl)
theorem dX2_said_12 : decode cX2_said 12 = .ok (.iconst 0, 1) := dk_3 (dk_at dksX2_said_0 12 rfl rfl)
theorem dX2_said_13 : decode cX2_said 13 = .ok (.ireturn, 1) := dk_172 (dk_at dksX2_said_0 13 rfl rfl)
theorem dX2_said_14 : decode cX2_said 14 = .ok (.aload_n 0, 1) := dk_42 (dk_at dksX2_said_0 14 rfl rfl)
theorem dX2_said_15 : decode cX2_said 15 = .ok (.iload_n 1, 1) := dk_27 (dk_at dksX2_said_0 15 rfl rfl)
theorem dX2_said_16 : decode cX2_said 16 = .ok (.iload_n 2, 1) := dk_28 (dk_at dksX2_said_0 16 rfl rfl)
theorem dX2_said_17 : decode cX2_said 17 = .ok (.invokevirtual 387, 3) := dk_182 1 131 (dk_at dksX2_said_0 17 rfl rfl)
theorem dX2_said_20 : decode cX2_said 20 = .ok (.ifCond .eq 24, 3) := dk_153 0 24 (dk_at dksX2_said_0 20 rfl rfl)
theorem dX2_said_23 : decode cX2_said 23 = .ok (.iload_n 3, 1) := dk_29 (dk_at dksX2_said_0 23 rfl rfl)
theorem dX2_said_24 : decode cX2_said 24 = .ok (.iconst 0, 1) := dk_3 (dk_at dksX2_said_1 0 rfl rfl)
theorem dX2_said_25 : decode cX2_said 25 = .ok (.bipush 10, 2) := dk_16 10 (dk_at dksX2_said_1 1 rfl rfl)
theorem dX2_said_27 : decode cX2_said 27 = .ok (.invokestatic 69, 3) := dk_184 0 69 (dk_at dksX2_said_1 3 rfl rfl)
theorem dX2_said_30 : decode cX2_said 30 = .ok (.ifCond .eq 14, 3) := dk_153 0 14 (dk_at dksX2_said_1 6 rfl rfl)
theorem dX2_said_33 : decode cX2_said 33 = .ok (.aload_n 0, 1) := dk_42 (dk_at dksX2_said_1 9 rfl rfl)
theorem dX2_said_34 : decode cX2_said 34 = .ok (.getfield 7, 3) := dk_180 0 7 (dk_at dksX2_said_1 10 rfl rfl)
theorem dX2_said_37 : decode cX2_said 37 = .ok (.iconst 5, 1) := dk_8 (dk_at dksX2_said_1 13 rfl rfl)
theorem dX2_said_38 : decode cX2_said 38 = .ok (.iaload, 1) := dk_46 (dk_at dksX2_said_1 14 rfl rfl)
theorem dX2_said_39 : decode cX2_said 39 = .ok (.bipush 8, 2) := dk_16 8 (dk_at dksX2_said_1 15 rfl rfl)
theorem dX2_said_41 : decode cX2_said 41 = .ok (.if_icmp .ne 6, 3) := dk_160 0 6 (dk_at dksX2_said_1 17 rfl rfl)
theorem dX2_said_44 : decode cX2_said 44 = .ok (.bipush (-2), 2) := dk_16 254 (dk_at dksX2_said_1 20 rfl rfl)
theorem dX2_said_46 : decode cX2_said 46 = .ok (.ireturn, 1) := dk_172 (dk_at dksX2_said_1 22 rfl rfl)
theorem dX2_said_47 : decode cX2_said 47 = .ok (.bipush 121, 2) := dk_16 121 (dk_at dksX2_said_2 0 rfl rfl)
theorem dX2_said_49 : decode cX2_said 49 = .ok (.iconst 3, 1) := dk_6 (dk_at dksX2_said_2 2 rfl rfl)
theorem dX2_said_50 : decode cX2_said 50 = .ok (.aload_n 0, 1) := dk_42 (dk_at dksX2_said_2 3 rfl rfl)
theorem dX2_said_51 : decode cX2_said 51 = .ok (.getfield 7, 3) := dk_180 0 7 (dk_at dksX2_said_2 4 rfl rfl)
theorem dX2_said_54 : decode cX2_said 54 = .ok (.iconst 5, 1) := dk_8 (dk_at dksX2_said_2 7 rfl rfl)
theorem dX2_said_55 : decode cX2_said 55 = .ok (.iaload, 1) := dk_46 (dk_at dksX2_said_2 8 rfl rfl)
theorem dX2_said_56 : decode cX2_said 56 = .ok (.imul, 1) := dk_104 (dk_at dksX2_said_2 9 rfl rfl)
theorem dX2_said_57 : decode cX2_said 57 = .ok (.iadd, 1) := dk_96 (dk_at dksX2_said_2 10 rfl rfl)
theorem dX2_said_58 : decode cX2_said 58 = .ok (.istore 4, 2) := dk_54 4 (dk_at dksX2_said_2 11 rfl rfl)
theorem dX2_said_60 : decode cX2_said 60 = .ok (.aload_n 0, 1) := dk_42 (dk_at dksX2_said_2 13 rfl rfl)
theorem dX2_said_61 : decode cX2_said 61 = .ok (.getfield 7, 3) := dk_180 0 7 (dk_at dksX2_said_2 14 rfl rfl)
theorem dX2_said_64 : decode cX2_said 64 = .ok (.iload 4, 2) := dk_21 4 (dk_at dksX2_said_2 17 rfl rfl)
theorem dX2_said_66 : decode cX2_said 66 = .ok (.iload_n 1, 1) := dk_27 (dk_at dksX2_said_2 19 rfl rfl)
theorem dX2_said_67 : decode cX2_said 67 = .ok (.iastore, 1) := dk_79 (dk_at dksX2_said_2 20 rfl rfl)
theorem dX2_said_68 : decode cX2_said 68 = .ok (.aload_n 0, 1) := dk_42 (dk_at dksX2_said_2 21 rfl rfl)
theorem dX2_said_69 : decode cX2_said 69 = .ok (.getfield 7, 3) := dk_180 0 7 (dk_at dksX2_said_3 0 rfl rfl)
theorem dX2_said_72 : decode cX2_said 72 = .ok (.iload 4, 2) := dk_21 4 (dk_at dksX2_said_3 3 rfl rfl)
theorem dX2_said_74 : decode cX2_said 74 = .ok (.iconst 1, 1) := dk_4 (dk_at dksX2_said_3 5 rfl rfl)
theorem dX2_said_75 : decode cX2_said 75 = .ok (.iadd, 1) := dk_96 (dk_at dksX2_said_3 6 rfl rfl)
theorem dX2_said_76 : decode cX2_said 76 = .ok (.iload_n 2, 1) := dk_28 (dk_at dksX2_said_3 7 rfl rfl)
theorem dX2_said_77 : decode cX2_said 77 = .ok (.iastore, 1) := dk_79 (dk_at dksX2_said_3 8 rfl rfl)
theorem dX2_said_78 : decode cX2_said 78 = .ok (.aload_n 0, 1) := dk_42 (dk_at dksX2_said_3 9 rfl rfl)
theorem dX2_said_79 : decode cX2_said 79 = .ok (.getfield 7, 3) := dk_180 0 7 (dk_at dksX2_said_3 10 rfl rfl)
theorem dX2_said_82 : decode cX2_said 82 = .ok (.iload 4, 2) := dk_21 4 (dk_at dksX2_said_3 13 rfl rfl)
theorem dX2_said_84 : decode cX2_said 84 = .ok (.iconst 2, 1) := dk_5 (dk_at dksX2_said_3 15 rfl rfl)
theorem dX2_said_85 : decode cX2_said 85 = .ok (.iadd, 1) := dk_96 (dk_at dksX2_said_3 16 rfl rfl)
theorem dX2_said_86 : decode cX2_said 86 = .ok (.iload_n 3, 1) := dk_29 (dk_at dksX2_said_3 17 rfl rfl)
theorem dX2_said_87 : decode cX2_said 87 = .ok (.iastore, 1) := dk_79 (dk_at dksX2_said_3 18 rfl rfl)
theorem dX2_said_88 : decode cX2_said 88 = .ok (.aload_n 0, 1) := dk_42 (dk_at dksX2_said_3 19 rfl rfl)
theorem dX2_said_89 : decode cX2_said 89 = .ok (.getfield 7, 3) := dk_180 0 7 (dk_at dksX2_said_3 20 rfl rfl)
theorem dX2_said_92 : decode cX2_said 92 = .ok (.iconst 5, 1) := dk_8 (dk_at dksX2_said_3 23 rfl rfl)
theorem dX2_said_93 : decode cX2_said 93 = .ok (.dup2, 1) := dk_92 (dk_at dksX2_said_4 0 rfl rfl)
theorem dX2_said_94 : decode cX2_said 94 = .ok (.iaload, 1) := dk_46 (dk_at dksX2_said_4 1 rfl rfl)
theorem dX2_said_95 : decode cX2_said 95 = .ok (.iconst 1, 1) := dk_4 (dk_at dksX2_said_4 2 rfl rfl)
theorem dX2_said_96 : decode cX2_said 96 = .ok (.iadd, 1) := dk_96 (dk_at dksX2_said_4 3 rfl rfl)
theorem dX2_said_97 : decode cX2_said 97 = .ok (.iastore, 1) := dk_79 (dk_at dksX2_said_4 4 rfl rfl)
theorem dX2_said_98 : decode cX2_said 98 = .ok (.aload_n 0, 1) := dk_42 (dk_at dksX2_said_4 5 rfl rfl)
theorem dX2_said_99 : decode cX2_said 99 = .ok (.getfield 7, 3) := dk_180 0 7 (dk_at dksX2_said_4 6 rfl rfl)
theorem dX2_said_102 : decode cX2_said 102 = .ok (.iconst 5, 1) := dk_8 (dk_at dksX2_said_4 9 rfl rfl)
theorem dX2_said_103 : decode cX2_said 103 = .ok (.iaload, 1) := dk_46 (dk_at dksX2_said_4 10 rfl rfl)
theorem dX2_said_104 : decode cX2_said 104 = .ok (.ireturn, 1) := dk_172 (dk_at dksX2_said_4 11 rfl rfl)
abbrev cX2_whose : ByteArray := prog_20_method_136_code
def yX2_whose : MethodName := ⟨RX2, "whose", "()I"⟩
def dkwX2_whose_4 : List UInt8 := [167, 0, 4, 3, 128, 60, 132, 2, 1, 167, 255, 157, 27, 172]
abbrev dktX2_whose_4 : List UInt8 := dkwX2_whose_4 ++ []
def dkwX2_whose_3 : List UInt8 := [160, 0, 7, 4, 167, 0, 4, 3, 62, 132, 4, 3, 167, 255, 193, 27, 29, 153, 0, 9, 4, 28, 120]
abbrev dktX2_whose_3 : List UInt8 := dkwX2_whose_3 ++ dktX2_whose_4
def dkwX2_whose_2 : List UInt8 := [46, 42, 180, 0, 7, 21, 4, 4, 96, 46, 4, 182, 1, 47, 42, 180, 0, 7, 21, 4, 5, 96, 46]
abbrev dktX2_whose_2 : List UInt8 := dkwX2_whose_2 ++ dktX2_whose_3
def dkwX2_whose_1 : List UInt8 := [6, 42, 180, 0, 7, 8, 46, 104, 96, 162, 0, 53, 29, 153, 0, 41, 42, 28, 42, 180, 0, 7, 21, 4]
abbrev dktX2_whose_1 : List UInt8 := dkwX2_whose_1 ++ dktX2_whose_2
def dkwX2_whose_0 : List UInt8 := [3, 60, 3, 61, 28, 42, 180, 0, 7, 4, 46, 162, 0, 95, 4, 62, 16, 121, 54, 4, 21, 4, 16, 121]
abbrev dktX2_whose_0 : List UInt8 := dkwX2_whose_0 ++ dktX2_whose_1
theorem dksX2_whose_0 : cX2_whose.data.toList.drop 0 = dktX2_whose_0 := by decide +kernel
theorem dksX2_whose_1 : cX2_whose.data.toList.drop 24 = dktX2_whose_1 := dk_seg dksX2_whose_0 24 rfl rfl
theorem dksX2_whose_2 : cX2_whose.data.toList.drop 48 = dktX2_whose_2 := dk_seg dksX2_whose_1 24 rfl rfl
theorem dksX2_whose_3 : cX2_whose.data.toList.drop 71 = dktX2_whose_3 := dk_seg dksX2_whose_2 23 rfl rfl
theorem dksX2_whose_4 : cX2_whose.data.toList.drop 94 = dktX2_whose_4 := dk_seg dksX2_whose_3 23 rfl rfl
theorem dX2_whose_0 : decode cX2_whose 0 = .ok (.iconst 0, 1) := dk_3 (dk_at dksX2_whose_0 0 rfl rfl)
theorem dX2_whose_1 : decode cX2_whose 1 = .ok (.istore_n 1, 1) := dk_60 (dk_at dksX2_whose_0 1 rfl rfl)
theorem dX2_whose_2 : decode cX2_whose 2 = .ok (.iconst 0, 1) := dk_3 (dk_at dksX2_whose_0 2 rfl rfl)
theorem dX2_whose_3 : decode cX2_whose 3 = .ok (.istore_n 2, 1) := dk_61 (dk_at dksX2_whose_0 3 rfl rfl)
theorem dX2_whose_4 : decode cX2_whose 4 = .ok (.iload_n 2, 1) := dk_28 (dk_at dksX2_whose_0 4 rfl rfl)
theorem dX2_whose_5 : decode cX2_whose 5 = .ok (.aload_n 0, 1) := dk_42 (dk_at dksX2_whose_0 5 rfl rfl)
theorem dX2_whose_6 : decode cX2_whose 6 = .ok (.getfield 7, 3) := dk_180 0 7 (dk_at dksX2_whose_0 6 rfl rfl)
theorem dX2_whose_9 : decode cX2_whose 9 = .ok (.iconst 1, 1) := dk_4 (dk_at dksX2_whose_0 9 rfl rfl)
theorem dX2_whose_10 : decode cX2_whose 10 = .ok (.iaload, 1) := dk_46 (dk_at dksX2_whose_0 10 rfl rfl)
theorem dX2_whose_11 : decode cX2_whose 11 = .ok (.if_icmp .ge 95, 3) := dk_162 0 95 (dk_at dksX2_whose_0 11 rfl rfl)
theorem dX2_whose_14 : decode cX2_whose 14 = .ok (.iconst 1, 1) := dk_4 (dk_at dksX2_whose_0 14 rfl rfl)
theorem dX2_whose_15 : decode cX2_whose 15 = .ok (.istore_n 3, 1) := dk_62 (dk_at dksX2_whose_0 15 rfl rfl)
theorem dX2_whose_16 : decode cX2_whose 16 = .ok (.bipush 121, 2) := dk_16 121 (dk_at dksX2_whose_0 16 rfl rfl)
theorem dX2_whose_18 : decode cX2_whose 18 = .ok (.istore 4, 2) := dk_54 4 (dk_at dksX2_whose_0 18 rfl rfl)
theorem dX2_whose_20 : decode cX2_whose 20 = .ok (.iload 4, 2) := dk_21 4 (dk_at dksX2_whose_0 20 rfl rfl)
theorem dX2_whose_22 : decode cX2_whose 22 = .ok (.bipush 121, 2) := dk_16 121 (dk_at dksX2_whose_0 22 rfl rfl)
theorem dX2_whose_24 : decode cX2_whose 24 = .ok (.iconst 3, 1) := dk_6 (dk_at dksX2_whose_1 0 rfl rfl)
theorem dX2_whose_25 : decode cX2_whose 25 = .ok (.aload_n 0, 1) := dk_42 (dk_at dksX2_whose_1 1 rfl rfl)
theorem dX2_whose_26 : decode cX2_whose 26 = .ok (.getfield 7, 3) := dk_180 0 7 (dk_at dksX2_whose_1 2 rfl rfl)
theorem dX2_whose_29 : decode cX2_whose 29 = .ok (.iconst 5, 1) := dk_8 (dk_at dksX2_whose_1 5 rfl rfl)
theorem dX2_whose_30 : decode cX2_whose 30 = .ok (.iaload, 1) := dk_46 (dk_at dksX2_whose_1 6 rfl rfl)
theorem dX2_whose_31 : decode cX2_whose 31 = .ok (.imul, 1) := dk_104 (dk_at dksX2_whose_1 7 rfl rfl)
theorem dX2_whose_32 : decode cX2_whose 32 = .ok (.iadd, 1) := dk_96 (dk_at dksX2_whose_1 8 rfl rfl)
theorem dX2_whose_33 : decode cX2_whose 33 = .ok (.if_icmp .ge 53, 3) := dk_162 0 53 (dk_at dksX2_whose_1 9 rfl rfl)
theorem dX2_whose_36 : decode cX2_whose 36 = .ok (.iload_n 3, 1) := dk_29 (dk_at dksX2_whose_1 12 rfl rfl)
theorem dX2_whose_37 : decode cX2_whose 37 = .ok (.ifCond .eq 41, 3) := dk_153 0 41 (dk_at dksX2_whose_1 13 rfl rfl)
theorem dX2_whose_40 : decode cX2_whose 40 = .ok (.aload_n 0, 1) := dk_42 (dk_at dksX2_whose_1 16 rfl rfl)
theorem dX2_whose_41 : decode cX2_whose 41 = .ok (.iload_n 2, 1) := dk_28 (dk_at dksX2_whose_1 17 rfl rfl)
theorem dX2_whose_42 : decode cX2_whose 42 = .ok (.aload_n 0, 1) := dk_42 (dk_at dksX2_whose_1 18 rfl rfl)
theorem dX2_whose_43 : decode cX2_whose 43 = .ok (.getfield 7, 3) := dk_180 0 7 (dk_at dksX2_whose_1 19 rfl rfl)
theorem dX2_whose_46 : decode cX2_whose 46 = .ok (.iload 4, 2) := dk_21 4 (dk_at dksX2_whose_1 22 rfl rfl)
theorem dX2_whose_48 : decode cX2_whose 48 = .ok (.iaload, 1) := dk_46 (dk_at dksX2_whose_2 0 rfl rfl)
theorem dX2_whose_49 : decode cX2_whose 49 = .ok (.aload_n 0, 1) := dk_42 (dk_at dksX2_whose_2 1 rfl rfl)
theorem dX2_whose_50 : decode cX2_whose 50 = .ok (.getfield 7, 3) := dk_180 0 7 (dk_at dksX2_whose_2 2 rfl rfl)
theorem dX2_whose_53 : decode cX2_whose 53 = .ok (.iload 4, 2) := dk_21 4 (dk_at dksX2_whose_2 5 rfl rfl)
theorem dX2_whose_55 : decode cX2_whose 55 = .ok (.iconst 1, 1) := dk_4 (dk_at dksX2_whose_2 7 rfl rfl)
theorem dX2_whose_56 : decode cX2_whose 56 = .ok (.iadd, 1) := dk_96 (dk_at dksX2_whose_2 8 rfl rfl)
theorem dX2_whose_57 : decode cX2_whose 57 = .ok (.iaload, 1) := dk_46 (dk_at dksX2_whose_2 9 rfl rfl)
theorem dX2_whose_58 : decode cX2_whose 58 = .ok (.iconst 1, 1) := dk_4 (dk_at dksX2_whose_2 10 rfl rfl)
theorem dX2_whose_59 : decode cX2_whose 59 = .ok (.invokevirtual 303, 3) := dk_182 1 47 (dk_at dksX2_whose_2 11 rfl rfl)
theorem dX2_whose_62 : decode cX2_whose 62 = .ok (.aload_n 0, 1) := dk_42 (dk_at dksX2_whose_2 14 rfl rfl)
theorem dX2_whose_63 : decode cX2_whose 63 = .ok (.getfield 7, 3) := dk_180 0 7 (dk_at dksX2_whose_2 15 rfl rfl)
theorem dX2_whose_66 : decode cX2_whose 66 = .ok (.iload 4, 2) := dk_21 4 (dk_at dksX2_whose_2 18 rfl rfl)
theorem dX2_whose_68 : decode cX2_whose 68 = .ok (.iconst 2, 1) := dk_5 (dk_at dksX2_whose_2 20 rfl rfl)
theorem dX2_whose_69 : decode cX2_whose 69 = .ok (.iadd, 1) := dk_96 (dk_at dksX2_whose_2 21 rfl rfl)
theorem dX2_whose_70 : decode cX2_whose 70 = .ok (.iaload, 1) := dk_46 (dk_at dksX2_whose_2 22 rfl rfl)
theorem dX2_whose_71 : decode cX2_whose 71 = .ok (.if_icmp .ne 7, 3) := dk_160 0 7 (dk_at dksX2_whose_3 0 rfl rfl)
theorem dX2_whose_74 : decode cX2_whose 74 = .ok (.iconst 1, 1) := dk_4 (dk_at dksX2_whose_3 3 rfl rfl)
theorem dX2_whose_75 : decode cX2_whose 75 = .ok (.goto 4, 3) := dk_167 0 4 (dk_at dksX2_whose_3 4 rfl rfl)
theorem dX2_whose_78 : decode cX2_whose 78 = .ok (.iconst 0, 1) := dk_3 (dk_at dksX2_whose_3 7 rfl rfl)
theorem dX2_whose_79 : decode cX2_whose 79 = .ok (.istore_n 3, 1) := dk_62 (dk_at dksX2_whose_3 8 rfl rfl)
theorem dX2_whose_80 : decode cX2_whose 80 = .ok (.iinc 4 3, 3) := dk_132 4 3 (dk_at dksX2_whose_3 9 rfl rfl)
theorem dX2_whose_83 : decode cX2_whose 83 = .ok (.goto (-63), 3) := dk_167 255 193 (dk_at dksX2_whose_3 12 rfl rfl)
theorem dX2_whose_86 : decode cX2_whose 86 = .ok (.iload_n 1, 1) := dk_27 (dk_at dksX2_whose_3 15 rfl rfl)
theorem dX2_whose_87 : decode cX2_whose 87 = .ok (.iload_n 3, 1) := dk_29 (dk_at dksX2_whose_3 16 rfl rfl)
theorem dX2_whose_88 : decode cX2_whose 88 = .ok (.ifCond .eq 9, 3) := dk_153 0 9 (dk_at dksX2_whose_3 17 rfl rfl)
theorem dX2_whose_91 : decode cX2_whose 91 = .ok (.iconst 1, 1) := dk_4 (dk_at dksX2_whose_3 20 rfl rfl)
theorem dX2_whose_92 : decode cX2_whose 92 = .ok (.iload_n 2, 1) := dk_28 (dk_at dksX2_whose_3 21 rfl rfl)
theorem dX2_whose_93 : decode cX2_whose 93 = .ok (.ishl, 1) := dk_120 (dk_at dksX2_whose_3 22 rfl rfl)
theorem dX2_whose_94 : decode cX2_whose 94 = .ok (.goto 4, 3) := dk_167 0 4 (dk_at dksX2_whose_4 0 rfl rfl)
theorem dX2_whose_97 : decode cX2_whose 97 = .ok (.iconst 0, 1) := dk_3 (dk_at dksX2_whose_4 3 rfl rfl)
theorem dX2_whose_98 : decode cX2_whose 98 = .ok (.ior, 1) := dk_128 (dk_at dksX2_whose_4 4 rfl rfl)
theorem dX2_whose_99 : decode cX2_whose 99 = .ok (.istore_n 1, 1) := dk_60 (dk_at dksX2_whose_4 5 rfl rfl)
theorem dX2_whose_100 : decode cX2_whose 100 = .ok (.iinc 2 1, 3) := dk_132 2 1 (dk_at dksX2_whose_4 6 rfl rfl)
theorem dX2_whose_103 : decode cX2_whose 103 = .ok (.goto (-99), 3) := dk_167 255 157 (dk_at dksX2_whose_4 9 rfl rfl)
theorem dX2_whose_106 : decode cX2_whose 106 = .ok (.iload_n 1, 1) := dk_27 (dk_at dksX2_whose_4 12 rfl rfl)
theorem dX2_whose_107 : decode cX2_whose 107 = .ok (.ireturn, 1) := dk_172 (dk_at dksX2_whose_4 13 rfl rfl)
abbrev cX2_image : ByteArray := prog_20_method_137_code
def yX2_image : MethodName := ⟨RX2, "image", "()I"⟩
def dkwX2_image_0 : List UInt8 := [42, 180, 0, 7, 42, 180, 0, 13, 184, 0, 65, 42, 180, 0, 7, 16, 6, 46, 172]
abbrev dktX2_image_0 : List UInt8 := dkwX2_image_0 ++ []
theorem dksX2_image_0 : cX2_image.data.toList.drop 0 = dktX2_image_0 := by decide +kernel
theorem dX2_image_0 : decode cX2_image 0 = .ok (.aload_n 0, 1) := dk_42 (dk_at dksX2_image_0 0 rfl rfl)
theorem dX2_image_1 : decode cX2_image 1 = .ok (.getfield 7, 3) := dk_180 0 7 (dk_at dksX2_image_0 1 rfl rfl)
theorem dX2_image_4 : decode cX2_image 4 = .ok (.aload_n 0, 1) := dk_42 (dk_at dksX2_image_0 4 rfl rfl)
theorem dX2_image_5 : decode cX2_image 5 = .ok (.getfield 13, 3) := dk_180 0 13 (dk_at dksX2_image_0 5 rfl rfl)
theorem dX2_image_8 : decode cX2_image 8 = .ok (.invokestatic 65, 3) := dk_184 0 65 (dk_at dksX2_image_0 8 rfl rfl)
theorem dX2_image_11 : decode cX2_image 11 = .ok (.aload_n 0, 1) := dk_42 (dk_at dksX2_image_0 11 rfl rfl)
theorem dX2_image_12 : decode cX2_image 12 = .ok (.getfield 7, 3) := dk_180 0 7 (dk_at dksX2_image_0 12 rfl rfl)
theorem dX2_image_15 : decode cX2_image 15 = .ok (.bipush 6, 2) := dk_16 6 (dk_at dksX2_image_0 15 rfl rfl)
theorem dX2_image_17 : decode cX2_image 17 = .ok (.iaload, 1) := dk_46 (dk_at dksX2_image_0 17 rfl rfl)
theorem dX2_image_18 : decode cX2_image 18 = .ok (.ireturn, 1) := dk_172 (dk_at dksX2_image_0 18 rfl rfl)
abbrev cX2_back : ByteArray := prog_20_method_138_code
def yX2_back : MethodName := ⟨RX2, "back", "()I"⟩
def dkwX2_back_0 : List UInt8 := [42, 180, 0, 13, 42, 180, 0, 7, 184, 0, 65, 42, 180, 0, 7, 16, 6, 46, 172]
abbrev dktX2_back_0 : List UInt8 := dkwX2_back_0 ++ []
theorem dksX2_back_0 : cX2_back.data.toList.drop 0 = dktX2_back_0 := by decide +kernel
theorem dX2_back_0 : decode cX2_back 0 = .ok (.aload_n 0, 1) := dk_42 (dk_at dksX2_back_0 0 rfl rfl)
theorem dX2_back_1 : decode cX2_back 1 = .ok (.getfield 13, 3) := dk_180 0 13 (dk_at dksX2_back_0 1 rfl rfl)
theorem dX2_back_4 : decode cX2_back 4 = .ok (.aload_n 0, 1) := dk_42 (dk_at dksX2_back_0 4 rfl rfl)
theorem dX2_back_5 : decode cX2_back 5 = .ok (.getfield 7, 3) := dk_180 0 7 (dk_at dksX2_back_0 5 rfl rfl)
theorem dX2_back_8 : decode cX2_back 8 = .ok (.invokestatic 65, 3) := dk_184 0 65 (dk_at dksX2_back_0 8 rfl rfl)
theorem dX2_back_11 : decode cX2_back 11 = .ok (.aload_n 0, 1) := dk_42 (dk_at dksX2_back_0 11 rfl rfl)
theorem dX2_back_12 : decode cX2_back 12 = .ok (.getfield 7, 3) := dk_180 0 7 (dk_at dksX2_back_0 12 rfl rfl)
theorem dX2_back_15 : decode cX2_back 15 = .ok (.bipush 6, 2) := dk_16 6 (dk_at dksX2_back_0 15 rfl rfl)
theorem dX2_back_17 : decode cX2_back 17 = .ok (.iaload, 1) := dk_46 (dk_at dksX2_back_0 17 rfl rfl)
theorem dX2_back_18 : decode cX2_back 18 = .ok (.ireturn, 1) := dk_172 (dk_at dksX2_back_0 18 rfl rfl)
abbrev cX2_about : ByteArray := prog_20_method_139_code
def yX2_about : MethodName := ⟨RX2, "about", "(I)I"⟩
def dkwX2_about_1 : List UInt8 := [42, 180, 0, 81, 167, 0, 5, 16, 254, 172]
abbrev dktX2_about_1 : List UInt8 := dkwX2_about_1 ++ []
def dkwX2_about_0 : List UInt8 := [27, 3, 8, 184, 0, 69, 153, 0, 12, 42, 180, 0, 7, 27, 46, 167, 0, 18, 27, 16, 6, 160, 0, 10]
abbrev dktX2_about_0 : List UInt8 := dkwX2_about_0 ++ dktX2_about_1
theorem dksX2_about_0 : cX2_about.data.toList.drop 0 = dktX2_about_0 := by decide +kernel
theorem dksX2_about_1 : cX2_about.data.toList.drop 24 = dktX2_about_1 := dk_seg dksX2_about_0 24 rfl rfl
theorem dX2_about_0 : decode cX2_about 0 = .ok (.iload_n 1, 1) := dk_27 (dk_at dksX2_about_0 0 rfl rfl)
theorem dX2_about_1 : decode cX2_about 1 = .ok (.iconst 0, 1) := dk_3 (dk_at dksX2_about_0 1 rfl rfl)
theorem dX2_about_2 : decode cX2_about 2 = .ok (.iconst 5, 1) := dk_8 (dk_at dksX2_about_0 2 rfl rfl)
theorem dX2_about_3 : decode cX2_about 3 = .ok (.invokestatic 69, 3) := dk_184 0 69 (dk_at dksX2_about_0 3 rfl rfl)
theorem dX2_about_6 : decode cX2_about 6 = .ok (.ifCond .eq 12, 3) := dk_153 0 12 (dk_at dksX2_about_0 6 rfl rfl)
theorem dX2_about_9 : decode cX2_about 9 = .ok (.aload_n 0, 1) := dk_42 (dk_at dksX2_about_0 9 rfl rfl)
theorem dX2_about_10 : decode cX2_about 10 = .ok (.getfield 7, 3) := dk_180 0 7 (dk_at dksX2_about_0 10 rfl rfl)
theorem dX2_about_13 : decode cX2_about 13 = .ok (.iload_n 1, 1) := dk_27 (dk_at dksX2_about_0 13 rfl rfl)
theorem dX2_about_14 : decode cX2_about 14 = .ok (.iaload, 1) := dk_46 (dk_at dksX2_about_0 14 rfl rfl)
theorem dX2_about_15 : decode cX2_about 15 = .ok (.goto 18, 3) := dk_167 0 18 (dk_at dksX2_about_0 15 rfl rfl)
theorem dX2_about_18 : decode cX2_about 18 = .ok (.iload_n 1, 1) := dk_27 (dk_at dksX2_about_0 18 rfl rfl)
theorem dX2_about_19 : decode cX2_about 19 = .ok (.bipush 6, 2) := dk_16 6 (dk_at dksX2_about_0 19 rfl rfl)
theorem dX2_about_21 : decode cX2_about 21 = .ok (.if_icmp .ne 10, 3) := dk_160 0 10 (dk_at dksX2_about_0 21 rfl rfl)
theorem dX2_about_24 : decode cX2_about 24 = .ok (.aload_n 0, 1) := dk_42 (dk_at dksX2_about_1 0 rfl rfl)
theorem dX2_about_25 : decode cX2_about 25 = .ok (.getfield 81, 3) := dk_180 0 81 (dk_at dksX2_about_1 1 rfl rfl)
theorem dX2_about_28 : decode cX2_about 28 = .ok (.goto 5, 3) := dk_167 0 5 (dk_at dksX2_about_1 4 rfl rfl)
theorem dX2_about_31 : decode cX2_about 31 = .ok (.bipush (-2), 2) := dk_16 254 (dk_at dksX2_about_1 7 rfl rfl)
theorem dX2_about_33 : decode cX2_about 33 = .ok (.ireturn, 1) := dk_172 (dk_at dksX2_about_1 9 rfl rfl)
theorem q125 : (Jvm.Cond.initialized "RailingsCountModel") ∈ lw_all := lw_g (lw_at lw_m1 5 rfl) rfl
theorem q653 : (Jvm.Cond.selects "RailingsCountModel" ({ cls := "java/lang/Object", name := "getClass", desc := "()Ljava/lang/Class;" } : Jvm.MethodName) ({ cls := "java/lang/Object", name := "getClass", desc := "()Ljava/lang/Class;" } : Jvm.MethodName)) ∈ lw_all := lw_g (lw_at lw_m3 53 rfl) rfl
theorem q1364 : (Jvm.Cond.instantiable "RailingsCountModel" (32 : Nat)) ∈ lw_all := lw_g (lw_at lw_m6 44 rfl) rfl
theorem q1366 : (Jvm.Cond.instanceMethod ({ cls := "RailingsCountModel", name := "<init>", desc := "()V" } : Jvm.MethodName)) ∈ lw_all := lw_g (lw_at lw_m6 46 rfl) rfl
theorem q1367 : (Jvm.Cond.code ({ cls := "RailingsCountModel", name := "<init>", desc := "()V" } : Jvm.MethodName) prog_20_method_1_code (2 : Nat) (Option.none : Option Jvm.ClassFile.FieldType)) ∈ lw_all := lw_g (lw_at lw_m6 47 rfl) rfl
theorem q1368 : (Jvm.Cond.methodLink "RailingsCountModel" (1 : Nat) ({ cls := "java/lang/Object", name := "<init>", desc := "()V" } : Jvm.MethodName)) ∈ lw_all := lw_g (lw_at lw_m6 48 rfl) rfl
theorem q1369 : (Jvm.Cond.methodLink "RailingsCountModel" (65 : Nat) ({ cls := "RailingsCountModel", name := "copy", desc := "([I[I)V" } : Jvm.MethodName)) ∈ lw_all := lw_g (lw_at lw_m6 49 rfl) rfl
theorem q1370 : (Jvm.Cond.static ({ cls := "RailingsCountModel", name := "copy", desc := "([I[I)V" } : Jvm.MethodName)) ∈ lw_all := lw_g (lw_at lw_m6 50 rfl) rfl
theorem q1371 : (Jvm.Cond.code ({ cls := "RailingsCountModel", name := "copy", desc := "([I[I)V" } : Jvm.MethodName) prog_20_method_2_code (3 : Nat) (Option.none : Option Jvm.ClassFile.FieldType)) ∈ lw_all := lw_g (lw_at lw_m6 51 rfl) rfl
theorem q1372 : (Jvm.Cond.fieldLink "RailingsCountModel" (7 : Nat) "RailingsCountModel" "a" "[I") ∈ lw_all := lw_g (lw_at lw_m6 52 rfl) rfl
theorem q1373 : (Jvm.Cond.fieldLink "RailingsCountModel" (13 : Nat) "RailingsCountModel" "image" "[I") ∈ lw_all := lw_g (lw_at lw_m6 53 rfl) rfl
theorem q1374 : (Jvm.Cond.fieldLink "RailingsCountModel" (16 : Nat) "RailingsCountModel" "texts" "[I") ∈ lw_all := lw_g (lw_at lw_m6 54 rfl) rfl
theorem q1375 : (Jvm.Cond.fieldLink "RailingsCountModel" (19 : Nat) "RailingsCountModel" "tape" "[I") ∈ lw_all := lw_g (lw_at lw_m6 55 rfl) rfl
theorem q1376 : (Jvm.Cond.fieldLink "RailingsCountModel" (81 : Nat) "RailingsCountModel" "taped" "I") ∈ lw_all := lw_g (lw_at lw_m6 56 rfl) rfl
theorem q1377 : (Jvm.Cond.fieldLink "RailingsCountModel" (22 : Nat) "RailingsCountModel" "fault" "I") ∈ lw_all := lw_g (lw_at lw_m6 57 rfl) rfl
theorem q1378 : (Jvm.Cond.fieldLink "RailingsCountModel" (26 : Nat) "RailingsCountModel" "faultPlace" "I") ∈ lw_all := lw_g (lw_at lw_m6 58 rfl) rfl
theorem q1379 : (Jvm.Cond.fieldLink "RailingsCountModel" (88 : Nat) "RailingsCountModel" "at" "I") ∈ lw_all := lw_g (lw_at lw_m6 59 rfl) rfl
theorem q1380 : (Jvm.Cond.fieldLink "RailingsCountModel" (95 : Nat) "RailingsCountModel" "place" "I") ∈ lw_all := lw_g (lw_at lw_m6 60 rfl) rfl
theorem q1381 : (Jvm.Cond.fieldLink "RailingsCountModel" (98 : Nat) "RailingsCountModel" "token" "I") ∈ lw_all := lw_g (lw_at lw_m6 61 rfl) rfl
theorem q1382 : (Jvm.Cond.fieldLink "RailingsCountModel" (104 : Nat) "RailingsCountModel" "number" "I") ∈ lw_all := lw_g (lw_at lw_m6 62 rfl) rfl
theorem q1383 : (Jvm.Cond.fieldLink "RailingsCountModel" (111 : Nat) "RailingsCountModel" "word" "J") ∈ lw_all := lw_g (lw_at lw_m6 63 rfl) rfl
theorem q1384 : (Jvm.Cond.fieldLink "RailingsCountModel" (136 : Nat) "RailingsCountModel" "text0" "I") ∈ lw_all := lw_g (lw_at lw_m6 64 rfl) rfl
theorem q1385 : (Jvm.Cond.fieldLink "RailingsCountModel" (139 : Nat) "RailingsCountModel" "written" "I") ∈ lw_all := lw_g (lw_at lw_m6 65 rfl) rfl
theorem q1386 : (Jvm.Cond.fieldLink "RailingsCountModel" (171 : Nat) "RailingsCountModel" "sort0" "I") ∈ lw_all := lw_g (lw_at lw_m6 66 rfl) rfl
theorem q1387 : (Jvm.Cond.fieldLink "RailingsCountModel" (29 : Nat) "RailingsCountModel" "pile" "[I") ∈ lw_all := lw_g (lw_at lw_m6 67 rfl) rfl
theorem q1388 : (Jvm.Cond.fieldLink "RailingsCountModel" (146 : Nat) "RailingsCountModel" "piled" "I") ∈ lw_all := lw_g (lw_at lw_m6 68 rfl) rfl
theorem q1389 : (Jvm.Cond.fieldLink "RailingsCountModel" (155 : Nat) "RailingsCountModel" "opens" "I") ∈ lw_all := lw_g (lw_at lw_m6 69 rfl) rfl
theorem q1390 : (Jvm.Cond.fieldLink "RailingsCountModel" (191 : Nat) "RailingsCountModel" "isWhole" "Z") ∈ lw_all := lw_g (lw_at lw_m6 70 rfl) rfl
theorem q1391 : (Jvm.Cond.fieldLink "RailingsCountModel" (232 : Nat) "RailingsCountModel" "once" "I") ∈ lw_all := lw_g (lw_at lw_m6 71 rfl) rfl
theorem q1392 : (Jvm.Cond.fieldLink "RailingsCountModel" (32 : Nat) "RailingsCountModel" "named" "[I") ∈ lw_all := lw_g (lw_at lw_m6 72 rfl) rfl
theorem q1393 : (Jvm.Cond.fieldLink "RailingsCountModel" (35 : Nat) "RailingsCountModel" "values" "[J") ∈ lw_all := lw_g (lw_at lw_m6 73 rfl) rfl
theorem q1394 : (Jvm.Cond.fieldLink "RailingsCountModel" (39 : Nat) "RailingsCountModel" "truth" "[Z") ∈ lw_all := lw_g (lw_at lw_m6 74 rfl) rfl
theorem q1395 : (Jvm.Cond.fieldLink "RailingsCountModel" (43 : Nat) "RailingsCountModel" "isWritten" "Z") ∈ lw_all := lw_g (lw_at lw_m6 75 rfl) rfl
theorem q1396 : (Jvm.Cond.fieldLink "RailingsCountModel" (310 : Nat) "RailingsCountModel" "runs" "I") ∈ lw_all := lw_g (lw_at lw_m6 76 rfl) rfl
theorem q1397 : (Jvm.Cond.fieldLink "RailingsCountModel" (47 : Nat) "RailingsCountModel" "aside" "[I") ∈ lw_all := lw_g (lw_at lw_m6 77 rfl) rfl
theorem q1398 : (Jvm.Cond.fieldLink "RailingsCountModel" (50 : Nat) "RailingsCountModel" "bars" "[I") ∈ lw_all := lw_g (lw_at lw_m6 78 rfl) rfl
theorem q1399 : (Jvm.Cond.fieldLink "RailingsCountModel" (373 : Nat) "RailingsCountModel" "barred" "I") ∈ lw_all := lw_g (lw_at lw_m6 79 rfl) rfl
theorem q1400 : (Jvm.Cond.fieldLink "RailingsCountModel" (53 : Nat) "RailingsCountModel" "worths" "[J") ∈ lw_all := lw_g (lw_at lw_m6 80 rfl) rfl
theorem q1401 : (Jvm.Cond.fieldLink "RailingsCountModel" (56 : Nat) "RailingsCountModel" "canBes" "[Z") ∈ lw_all := lw_g (lw_at lw_m6 81 rfl) rfl
theorem q1402 : (Jvm.Cond.fieldLink "RailingsCountModel" (59 : Nat) "RailingsCountModel" "left" "[I") ∈ lw_all := lw_g (lw_at lw_m6 82 rfl) rfl
theorem q1403 : (Jvm.Cond.fieldLink "RailingsCountModel" (62 : Nat) "RailingsCountModel" "costs" "[I") ∈ lw_all := lw_g (lw_at lw_m6 83 rfl) rfl
theorem q1404 : (Jvm.Cond.laysFinal "RailingsCountModel" "RailingsCountModel" "a" "[I") ∈ lw_all := lw_g (lw_at lw_m6 84 rfl) rfl
theorem q1405 : (Jvm.Cond.soleField "RailingsCountModel" "a") ∈ lw_all := lw_g (lw_at lw_m6 85 rfl) rfl
theorem q1406 : (Jvm.Cond.laysFinal "RailingsCountModel" "RailingsCountModel" "image" "[I") ∈ lw_all := lw_g (lw_at lw_m6 86 rfl) rfl
theorem q1407 : (Jvm.Cond.soleField "RailingsCountModel" "image") ∈ lw_all := lw_g (lw_at lw_m6 87 rfl) rfl
theorem q1408 : (Jvm.Cond.laysFinal "RailingsCountModel" "RailingsCountModel" "texts" "[I") ∈ lw_all := lw_g (lw_at lw_m6 88 rfl) rfl
theorem q1409 : (Jvm.Cond.soleField "RailingsCountModel" "texts") ∈ lw_all := lw_g (lw_at lw_m6 89 rfl) rfl
theorem q1410 : (Jvm.Cond.laysFinal "RailingsCountModel" "RailingsCountModel" "tape" "[I") ∈ lw_all := lw_g (lw_at lw_m6 90 rfl) rfl
theorem q1411 : (Jvm.Cond.soleField "RailingsCountModel" "tape") ∈ lw_all := lw_g (lw_at lw_m6 91 rfl) rfl
theorem q1412 : (Jvm.Cond.lays "RailingsCountModel" "RailingsCountModel" "taped" "I") ∈ lw_all := lw_g (lw_at lw_m6 92 rfl) rfl
theorem q1413 : (Jvm.Cond.soleField "RailingsCountModel" "taped") ∈ lw_all := lw_g (lw_at lw_m6 93 rfl) rfl
theorem q1414 : (Jvm.Cond.lays "RailingsCountModel" "RailingsCountModel" "fault" "I") ∈ lw_all := lw_g (lw_at lw_m6 94 rfl) rfl
theorem q1415 : (Jvm.Cond.soleField "RailingsCountModel" "fault") ∈ lw_all := lw_g (lw_at lw_m6 95 rfl) rfl
theorem q1416 : (Jvm.Cond.lays "RailingsCountModel" "RailingsCountModel" "faultPlace" "I") ∈ lw_all := lw_g (lw_at lw_m6 96 rfl) rfl
theorem q1417 : (Jvm.Cond.soleField "RailingsCountModel" "faultPlace") ∈ lw_all := lw_g (lw_at lw_m6 97 rfl) rfl
theorem q1418 : (Jvm.Cond.lays "RailingsCountModel" "RailingsCountModel" "at" "I") ∈ lw_all := lw_g (lw_at lw_m6 98 rfl) rfl
theorem q1419 : (Jvm.Cond.soleField "RailingsCountModel" "at") ∈ lw_all := lw_g (lw_at lw_m6 99 rfl) rfl
theorem q1420 : (Jvm.Cond.lays "RailingsCountModel" "RailingsCountModel" "place" "I") ∈ lw_all := lw_g (lw_at lw_m6 100 rfl) rfl
theorem q1421 : (Jvm.Cond.soleField "RailingsCountModel" "place") ∈ lw_all := lw_g (lw_at lw_m6 101 rfl) rfl
theorem q1422 : (Jvm.Cond.lays "RailingsCountModel" "RailingsCountModel" "token" "I") ∈ lw_all := lw_g (lw_at lw_m6 102 rfl) rfl
theorem q1423 : (Jvm.Cond.soleField "RailingsCountModel" "token") ∈ lw_all := lw_g (lw_at lw_m6 103 rfl) rfl
theorem q1424 : (Jvm.Cond.lays "RailingsCountModel" "RailingsCountModel" "number" "I") ∈ lw_all := lw_g (lw_at lw_m6 104 rfl) rfl
theorem q1425 : (Jvm.Cond.soleField "RailingsCountModel" "number") ∈ lw_all := lw_g (lw_at lw_m6 105 rfl) rfl
theorem q1426 : (Jvm.Cond.lays "RailingsCountModel" "RailingsCountModel" "word" "J") ∈ lw_all := lw_g (lw_at lw_m6 106 rfl) rfl
theorem q1427 : (Jvm.Cond.soleField "RailingsCountModel" "word") ∈ lw_all := lw_g (lw_at lw_m6 107 rfl) rfl
theorem q1428 : (Jvm.Cond.lays "RailingsCountModel" "RailingsCountModel" "text0" "I") ∈ lw_all := lw_g (lw_at lw_m6 108 rfl) rfl
theorem q1429 : (Jvm.Cond.soleField "RailingsCountModel" "text0") ∈ lw_all := lw_g (lw_at lw_m6 109 rfl) rfl
theorem q1430 : (Jvm.Cond.lays "RailingsCountModel" "RailingsCountModel" "written" "I") ∈ lw_all := lw_g (lw_at lw_m6 110 rfl) rfl
theorem q1431 : (Jvm.Cond.soleField "RailingsCountModel" "written") ∈ lw_all := lw_g (lw_at lw_m6 111 rfl) rfl
theorem q1432 : (Jvm.Cond.lays "RailingsCountModel" "RailingsCountModel" "sort0" "I") ∈ lw_all := lw_g (lw_at lw_m6 112 rfl) rfl
theorem q1433 : (Jvm.Cond.soleField "RailingsCountModel" "sort0") ∈ lw_all := lw_g (lw_at lw_m6 113 rfl) rfl
theorem q1434 : (Jvm.Cond.laysFinal "RailingsCountModel" "RailingsCountModel" "pile" "[I") ∈ lw_all := lw_g (lw_at lw_m6 114 rfl) rfl
theorem q1435 : (Jvm.Cond.soleField "RailingsCountModel" "pile") ∈ lw_all := lw_g (lw_at lw_m6 115 rfl) rfl
theorem q1436 : (Jvm.Cond.lays "RailingsCountModel" "RailingsCountModel" "piled" "I") ∈ lw_all := lw_g (lw_at lw_m6 116 rfl) rfl
theorem q1437 : (Jvm.Cond.soleField "RailingsCountModel" "piled") ∈ lw_all := lw_g (lw_at lw_m6 117 rfl) rfl
theorem q1438 : (Jvm.Cond.lays "RailingsCountModel" "RailingsCountModel" "opens" "I") ∈ lw_all := lw_g (lw_at lw_m6 118 rfl) rfl
theorem q1439 : (Jvm.Cond.soleField "RailingsCountModel" "opens") ∈ lw_all := lw_g (lw_at lw_m6 119 rfl) rfl
theorem q1440 : (Jvm.Cond.lays "RailingsCountModel" "RailingsCountModel" "isWhole" "Z") ∈ lw_all := lw_g (lw_at lw_m6 120 rfl) rfl
theorem q1441 : (Jvm.Cond.soleField "RailingsCountModel" "isWhole") ∈ lw_all := lw_g (lw_at lw_m6 121 rfl) rfl
theorem q1442 : (Jvm.Cond.lays "RailingsCountModel" "RailingsCountModel" "once" "I") ∈ lw_all := lw_g (lw_at lw_m6 122 rfl) rfl
theorem q1443 : (Jvm.Cond.soleField "RailingsCountModel" "once") ∈ lw_all := lw_g (lw_at lw_m6 123 rfl) rfl
theorem q1444 : (Jvm.Cond.laysFinal "RailingsCountModel" "RailingsCountModel" "named" "[I") ∈ lw_all := lw_g (lw_at lw_m6 124 rfl) rfl
theorem q1445 : (Jvm.Cond.soleField "RailingsCountModel" "named") ∈ lw_all := lw_g (lw_at lw_m6 125 rfl) rfl
theorem q1446 : (Jvm.Cond.laysFinal "RailingsCountModel" "RailingsCountModel" "values" "[J") ∈ lw_all := lw_g (lw_at lw_m6 126 rfl) rfl
theorem q1447 : (Jvm.Cond.soleField "RailingsCountModel" "values") ∈ lw_all := lw_g (lw_at lw_m6 127 rfl) rfl
theorem q1448 : (Jvm.Cond.laysFinal "RailingsCountModel" "RailingsCountModel" "truth" "[Z") ∈ lw_all := lw_g (lw_at lw_m6 128 rfl) rfl
theorem q1449 : (Jvm.Cond.soleField "RailingsCountModel" "truth") ∈ lw_all := lw_g (lw_at lw_m6 129 rfl) rfl
theorem q1450 : (Jvm.Cond.lays "RailingsCountModel" "RailingsCountModel" "isWritten" "Z") ∈ lw_all := lw_g (lw_at lw_m6 130 rfl) rfl
theorem q1451 : (Jvm.Cond.soleField "RailingsCountModel" "isWritten") ∈ lw_all := lw_g (lw_at lw_m6 131 rfl) rfl
theorem q1452 : (Jvm.Cond.lays "RailingsCountModel" "RailingsCountModel" "runs" "I") ∈ lw_all := lw_g (lw_at lw_m6 132 rfl) rfl
theorem q1453 : (Jvm.Cond.soleField "RailingsCountModel" "runs") ∈ lw_all := lw_g (lw_at lw_m6 133 rfl) rfl
theorem q1454 : (Jvm.Cond.laysFinal "RailingsCountModel" "RailingsCountModel" "aside" "[I") ∈ lw_all := lw_g (lw_at lw_m6 134 rfl) rfl
theorem q1455 : (Jvm.Cond.soleField "RailingsCountModel" "aside") ∈ lw_all := lw_g (lw_at lw_m6 135 rfl) rfl
theorem q1456 : (Jvm.Cond.laysFinal "RailingsCountModel" "RailingsCountModel" "bars" "[I") ∈ lw_all := lw_g (lw_at lw_m6 136 rfl) rfl
theorem q1457 : (Jvm.Cond.soleField "RailingsCountModel" "bars") ∈ lw_all := lw_g (lw_at lw_m6 137 rfl) rfl
theorem q1458 : (Jvm.Cond.lays "RailingsCountModel" "RailingsCountModel" "barred" "I") ∈ lw_all := lw_g (lw_at lw_m6 138 rfl) rfl
theorem q1459 : (Jvm.Cond.soleField "RailingsCountModel" "barred") ∈ lw_all := lw_g (lw_at lw_m6 139 rfl) rfl
theorem q1460 : (Jvm.Cond.laysFinal "RailingsCountModel" "RailingsCountModel" "worths" "[J") ∈ lw_all := lw_g (lw_at lw_m6 140 rfl) rfl
theorem q1461 : (Jvm.Cond.soleField "RailingsCountModel" "worths") ∈ lw_all := lw_g (lw_at lw_m6 141 rfl) rfl
theorem q1462 : (Jvm.Cond.laysFinal "RailingsCountModel" "RailingsCountModel" "canBes" "[Z") ∈ lw_all := lw_g (lw_at lw_m6 142 rfl) rfl
theorem q1463 : (Jvm.Cond.soleField "RailingsCountModel" "canBes") ∈ lw_all := lw_g (lw_at lw_m6 143 rfl) rfl
theorem q1464 : (Jvm.Cond.laysFinal "RailingsCountModel" "RailingsCountModel" "left" "[I") ∈ lw_all := lw_g (lw_at lw_m6 144 rfl) rfl
theorem q1465 : (Jvm.Cond.soleField "RailingsCountModel" "left") ∈ lw_all := lw_g (lw_at lw_m6 145 rfl) rfl
theorem q1466 : (Jvm.Cond.laysFinal "RailingsCountModel" "RailingsCountModel" "costs" "[I") ∈ lw_all := lw_g (lw_at lw_m6 146 rfl) rfl
theorem q1467 : (Jvm.Cond.soleField "RailingsCountModel" "costs") ∈ lw_all := lw_g (lw_at lw_m6 147 rfl) rfl
theorem q1468 : (Jvm.Cond.superclass "RailingsCountModel" "java/lang/Object") ∈ lw_all := lw_g (lw_at lw_m6 148 rfl) rfl
theorem q1472 : (Jvm.Cond.instanceMethod ({ cls := "RailingsCountModel", name := "bar", desc := "(II)Z" } : Jvm.MethodName)) ∈ lw_all := lw_g (lw_at lw_m6 152 rfl) rfl
theorem q1473 : (Jvm.Cond.selects "RailingsCountModel" ({ cls := "RailingsCountModel", name := "bar", desc := "(II)Z" } : Jvm.MethodName) ({ cls := "RailingsCountModel", name := "bar", desc := "(II)Z" } : Jvm.MethodName)) ∈ lw_all := lw_g (lw_at lw_m6 153 rfl) rfl
theorem q1474 : (Jvm.Cond.code ({ cls := "RailingsCountModel", name := "bar", desc := "(II)Z" } : Jvm.MethodName) prog_20_method_11_code (3 : Nat) (Option.some Jvm.ClassFile.FieldType.boolean)) ∈ lw_all := lw_g (lw_at lw_m6 154 rfl) rfl
theorem q1475 : (Jvm.Cond.methodLink "RailingsCountModel" (73 : Nat) ({ cls := "RailingsCountModel", name := "isPlace", desc := "(I)Z" } : Jvm.MethodName)) ∈ lw_all := lw_g (lw_at lw_m6 155 rfl) rfl
theorem q1476 : (Jvm.Cond.static ({ cls := "RailingsCountModel", name := "isPlace", desc := "(I)Z" } : Jvm.MethodName)) ∈ lw_all := lw_g (lw_at lw_m6 156 rfl) rfl
theorem q1477 : (Jvm.Cond.code ({ cls := "RailingsCountModel", name := "isPlace", desc := "(I)Z" } : Jvm.MethodName) prog_20_method_7_code (1 : Nat) (Option.some Jvm.ClassFile.FieldType.boolean)) ∈ lw_all := lw_g (lw_at lw_m6 157 rfl) rfl
theorem q1478 : (Jvm.Cond.methodLink "RailingsCountModel" (69 : Nat) ({ cls := "RailingsCountModel", name := "isIn", desc := "(III)Z" } : Jvm.MethodName)) ∈ lw_all := lw_g (lw_at lw_m6 158 rfl) rfl
theorem q1479 : (Jvm.Cond.static ({ cls := "RailingsCountModel", name := "isIn", desc := "(III)Z" } : Jvm.MethodName)) ∈ lw_all := lw_g (lw_at lw_m6 159 rfl) rfl
theorem q1480 : (Jvm.Cond.code ({ cls := "RailingsCountModel", name := "isIn", desc := "(III)Z" } : Jvm.MethodName) prog_20_method_3_code (3 : Nat) (Option.some Jvm.ClassFile.FieldType.boolean)) ∈ lw_all := lw_g (lw_at lw_m6 160 rfl) rfl
theorem q1481 : (Jvm.Cond.methodLink "RailingsCountModel" (77 : Nat) ({ cls := "RailingsCountModel", name := "lay", desc := "(II)V" } : Jvm.MethodName)) ∈ lw_all := lw_g (lw_at lw_m6 161 rfl) rfl
theorem q1482 : (Jvm.Cond.privateMethod ({ cls := "RailingsCountModel", name := "lay", desc := "(II)V" } : Jvm.MethodName)) ∈ lw_tbl := lw_at lw_m6 162 rfl
theorem q1483 : (Jvm.Cond.instanceMethod ({ cls := "RailingsCountModel", name := "lay", desc := "(II)V" } : Jvm.MethodName)) ∈ lw_all := lw_g (lw_at lw_m6 163 rfl) rfl
theorem q1484 : (Jvm.Cond.code ({ cls := "RailingsCountModel", name := "lay", desc := "(II)V" } : Jvm.MethodName) prog_20_method_10_code (4 : Nat) (Option.none : Option Jvm.ClassFile.FieldType)) ∈ lw_all := lw_g (lw_at lw_m6 164 rfl) rfl
theorem q1486 : (Jvm.Cond.instanceMethod ({ cls := "RailingsCountModel", name := "paint", desc := "(II)Z" } : Jvm.MethodName)) ∈ lw_all := lw_g (lw_at lw_m6 166 rfl) rfl
theorem q1487 : (Jvm.Cond.selects "RailingsCountModel" ({ cls := "RailingsCountModel", name := "paint", desc := "(II)Z" } : Jvm.MethodName) ({ cls := "RailingsCountModel", name := "paint", desc := "(II)Z" } : Jvm.MethodName)) ∈ lw_all := lw_g (lw_at lw_m6 167 rfl) rfl
theorem q1488 : (Jvm.Cond.code ({ cls := "RailingsCountModel", name := "paint", desc := "(II)Z" } : Jvm.MethodName) prog_20_method_12_code (3 : Nat) (Option.some Jvm.ClassFile.FieldType.boolean)) ∈ lw_all := lw_g (lw_at lw_m6 168 rfl) rfl
theorem q1490 : (Jvm.Cond.instanceMethod ({ cls := "RailingsCountModel", name := "child", desc := "(II)I" } : Jvm.MethodName)) ∈ lw_all := lw_g (lw_at lw_m6 170 rfl) rfl
theorem q1491 : (Jvm.Cond.selects "RailingsCountModel" ({ cls := "RailingsCountModel", name := "child", desc := "(II)I" } : Jvm.MethodName) ({ cls := "RailingsCountModel", name := "child", desc := "(II)I" } : Jvm.MethodName)) ∈ lw_all := lw_g (lw_at lw_m6 171 rfl) rfl
theorem q1492 : (Jvm.Cond.code ({ cls := "RailingsCountModel", name := "child", desc := "(II)I" } : Jvm.MethodName) prog_20_method_13_code (4 : Nat) (Option.some Jvm.ClassFile.FieldType.int)) ∈ lw_all := lw_g (lw_at lw_m6 172 rfl) rfl
theorem q1494 : (Jvm.Cond.instanceMethod ({ cls := "RailingsCountModel", name := "feed", desc := "(IIIII)I" } : Jvm.MethodName)) ∈ lw_all := lw_g (lw_at lw_m6 174 rfl) rfl
theorem q1495 : (Jvm.Cond.selects "RailingsCountModel" ({ cls := "RailingsCountModel", name := "feed", desc := "(IIIII)I" } : Jvm.MethodName) ({ cls := "RailingsCountModel", name := "feed", desc := "(IIIII)I" } : Jvm.MethodName)) ∈ lw_all := lw_g (lw_at lw_m6 175 rfl) rfl
theorem q1496 : (Jvm.Cond.code ({ cls := "RailingsCountModel", name := "feed", desc := "(IIIII)I" } : Jvm.MethodName) prog_20_method_15_code (6 : Nat) (Option.some Jvm.ClassFile.FieldType.int)) ∈ lw_all := lw_g (lw_at lw_m6 176 rfl) rfl
theorem q1497 : (Jvm.Cond.methodLink "RailingsCountModel" (84 : Nat) ({ cls := "RailingsCountModel", name := "four", desc := "(I)V" } : Jvm.MethodName)) ∈ lw_all := lw_g (lw_at lw_m6 177 rfl) rfl
theorem q1498 : (Jvm.Cond.privateMethod ({ cls := "RailingsCountModel", name := "four", desc := "(I)V" } : Jvm.MethodName)) ∈ lw_tbl := lw_at lw_m6 178 rfl
theorem q1499 : (Jvm.Cond.instanceMethod ({ cls := "RailingsCountModel", name := "four", desc := "(I)V" } : Jvm.MethodName)) ∈ lw_all := lw_g (lw_at lw_m6 179 rfl) rfl
theorem q1500 : (Jvm.Cond.code ({ cls := "RailingsCountModel", name := "four", desc := "(I)V" } : Jvm.MethodName) prog_20_method_14_code (3 : Nat) (Option.none : Option Jvm.ClassFile.FieldType)) ∈ lw_all := lw_g (lw_at lw_m6 180 rfl) rfl
theorem q1502 : (Jvm.Cond.instanceMethod ({ cls := "RailingsCountModel", name := "end", desc := "(I)I" } : Jvm.MethodName)) ∈ lw_all := lw_g (lw_at lw_m6 182 rfl) rfl
theorem q1503 : (Jvm.Cond.selects "RailingsCountModel" ({ cls := "RailingsCountModel", name := "end", desc := "(I)I" } : Jvm.MethodName) ({ cls := "RailingsCountModel", name := "end", desc := "(I)I" } : Jvm.MethodName)) ∈ lw_all := lw_g (lw_at lw_m6 183 rfl) rfl
theorem q1504 : (Jvm.Cond.code ({ cls := "RailingsCountModel", name := "end", desc := "(I)I" } : Jvm.MethodName) prog_20_method_16_code (2 : Nat) (Option.some Jvm.ClassFile.FieldType.int)) ∈ lw_all := lw_g (lw_at lw_m6 184 rfl) rfl
theorem q1506 : (Jvm.Cond.instanceMethod ({ cls := "RailingsCountModel", name := "text", desc := "()I" } : Jvm.MethodName)) ∈ lw_all := lw_g (lw_at lw_m6 186 rfl) rfl
theorem q1507 : (Jvm.Cond.selects "RailingsCountModel" ({ cls := "RailingsCountModel", name := "text", desc := "()I" } : Jvm.MethodName) ({ cls := "RailingsCountModel", name := "text", desc := "()I" } : Jvm.MethodName)) ∈ lw_all := lw_g (lw_at lw_m6 187 rfl) rfl
theorem q1508 : (Jvm.Cond.code ({ cls := "RailingsCountModel", name := "text", desc := "()I" } : Jvm.MethodName) prog_20_method_52_code (1 : Nat) (Option.some Jvm.ClassFile.FieldType.int)) ∈ lw_all := lw_g (lw_at lw_m6 188 rfl) rfl
theorem q1509 : (Jvm.Cond.methodLink "RailingsCountModel" (246 : Nat) ({ cls := "RailingsCountModel", name := "readText", desc := "()I" } : Jvm.MethodName)) ∈ lw_all := lw_g (lw_at lw_m6 189 rfl) rfl
theorem q1510 : (Jvm.Cond.privateMethod ({ cls := "RailingsCountModel", name := "readText", desc := "()I" } : Jvm.MethodName)) ∈ lw_tbl := lw_at lw_m6 190 rfl
theorem q1511 : (Jvm.Cond.instanceMethod ({ cls := "RailingsCountModel", name := "readText", desc := "()I" } : Jvm.MethodName)) ∈ lw_all := lw_g (lw_at lw_m6 191 rfl) rfl
theorem q1512 : (Jvm.Cond.code ({ cls := "RailingsCountModel", name := "readText", desc := "()I" } : Jvm.MethodName) prog_20_method_51_code (2 : Nat) (Option.some Jvm.ClassFile.FieldType.int)) ∈ lw_all := lw_g (lw_at lw_m6 192 rfl) rfl
theorem q1513 : (Jvm.Cond.methodLink "RailingsCountModel" (165 : Nat) ({ cls := "RailingsCountModel", name := "nextToken", desc := "()V" } : Jvm.MethodName)) ∈ lw_all := lw_g (lw_at lw_m6 193 rfl) rfl
theorem q1514 : (Jvm.Cond.privateMethod ({ cls := "RailingsCountModel", name := "nextToken", desc := "()V" } : Jvm.MethodName)) ∈ lw_tbl := lw_at lw_m6 194 rfl
theorem q1515 : (Jvm.Cond.instanceMethod ({ cls := "RailingsCountModel", name := "nextToken", desc := "()V" } : Jvm.MethodName)) ∈ lw_all := lw_g (lw_at lw_m6 195 rfl) rfl
theorem q1516 : (Jvm.Cond.code ({ cls := "RailingsCountModel", name := "nextToken", desc := "()V" } : Jvm.MethodName) prog_20_method_21_code (2 : Nat) (Option.none : Option Jvm.ClassFile.FieldType)) ∈ lw_all := lw_g (lw_at lw_m6 196 rfl) rfl
theorem q1517 : (Jvm.Cond.methodLink "RailingsCountModel" (91 : Nat) ({ cls := "RailingsCountModel", name := "byteAt", desc := "(I)I" } : Jvm.MethodName)) ∈ lw_all := lw_g (lw_at lw_m6 197 rfl) rfl
theorem q1518 : (Jvm.Cond.privateMethod ({ cls := "RailingsCountModel", name := "byteAt", desc := "(I)I" } : Jvm.MethodName)) ∈ lw_tbl := lw_at lw_m6 198 rfl
theorem q1519 : (Jvm.Cond.instanceMethod ({ cls := "RailingsCountModel", name := "byteAt", desc := "(I)I" } : Jvm.MethodName)) ∈ lw_all := lw_g (lw_at lw_m6 199 rfl) rfl
theorem q1520 : (Jvm.Cond.code ({ cls := "RailingsCountModel", name := "byteAt", desc := "(I)I" } : Jvm.MethodName) prog_20_method_17_code (2 : Nat) (Option.some Jvm.ClassFile.FieldType.int)) ∈ lw_all := lw_g (lw_at lw_m6 200 rfl) rfl
theorem q1521 : (Jvm.Cond.methodLink "RailingsCountModel" (101 : Nat) ({ cls := "RailingsCountModel", name := "isFigure", desc := "(I)Z" } : Jvm.MethodName)) ∈ lw_all := lw_g (lw_at lw_m6 201 rfl) rfl
theorem q1522 : (Jvm.Cond.static ({ cls := "RailingsCountModel", name := "isFigure", desc := "(I)Z" } : Jvm.MethodName)) ∈ lw_all := lw_g (lw_at lw_m6 202 rfl) rfl
theorem q1523 : (Jvm.Cond.code ({ cls := "RailingsCountModel", name := "isFigure", desc := "(I)Z" } : Jvm.MethodName) prog_20_method_19_code (1 : Nat) (Option.some Jvm.ClassFile.FieldType.boolean)) ∈ lw_all := lw_g (lw_at lw_m6 203 rfl) rfl
theorem q1524 : (Jvm.Cond.constant "RailingsCountModel" (107 : Nat) (99999 : Int32)) ∈ lw_all := lw_g (lw_at lw_m6 204 rfl) rfl
theorem q1525 : (Jvm.Cond.methodLink "RailingsCountModel" (108 : Nat) ({ cls := "RailingsCountModel", name := "isLetterByte", desc := "(I)Z" } : Jvm.MethodName)) ∈ lw_all := lw_g (lw_at lw_m6 205 rfl) rfl
theorem q1526 : (Jvm.Cond.static ({ cls := "RailingsCountModel", name := "isLetterByte", desc := "(I)Z" } : Jvm.MethodName)) ∈ lw_all := lw_g (lw_at lw_m6 206 rfl) rfl
theorem q1527 : (Jvm.Cond.code ({ cls := "RailingsCountModel", name := "isLetterByte", desc := "(I)Z" } : Jvm.MethodName) prog_20_method_18_code (1 : Nat) (Option.some Jvm.ClassFile.FieldType.boolean)) ∈ lw_all := lw_g (lw_at lw_m6 207 rfl) rfl
theorem q1528 : (Jvm.Cond.constantLong "RailingsCountModel" (115 : Nat) (1152921504606846976 : Int64)) ∈ lw_all := lw_g (lw_at lw_m6 208 rfl) rfl
theorem q1529 : (Jvm.Cond.methodLink "RailingsCountModel" (117 : Nat) ({ cls := "RailingsCountModel", name := "isSign", desc := "(I)Z" } : Jvm.MethodName)) ∈ lw_all := lw_g (lw_at lw_m6 209 rfl) rfl
theorem q1530 : (Jvm.Cond.static ({ cls := "RailingsCountModel", name := "isSign", desc := "(I)Z" } : Jvm.MethodName)) ∈ lw_all := lw_g (lw_at lw_m6 210 rfl) rfl
theorem q1531 : (Jvm.Cond.code ({ cls := "RailingsCountModel", name := "isSign", desc := "(I)Z" } : Jvm.MethodName) prog_20_method_20_code (1 : Nat) (Option.some Jvm.ClassFile.FieldType.boolean)) ∈ lw_all := lw_g (lw_at lw_m6 211 rfl) rfl
theorem q1532 : (Jvm.Cond.methodLink "RailingsCountModel" (243 : Nat) ({ cls := "RailingsCountModel", name := "clause", desc := "()I" } : Jvm.MethodName)) ∈ lw_all := lw_g (lw_at lw_m6 212 rfl) rfl
theorem q1533 : (Jvm.Cond.privateMethod ({ cls := "RailingsCountModel", name := "clause", desc := "()I" } : Jvm.MethodName)) ∈ lw_tbl := lw_at lw_m6 213 rfl
theorem q1534 : (Jvm.Cond.instanceMethod ({ cls := "RailingsCountModel", name := "clause", desc := "()I" } : Jvm.MethodName)) ∈ lw_all := lw_g (lw_at lw_m6 214 rfl) rfl
theorem q1535 : (Jvm.Cond.code ({ cls := "RailingsCountModel", name := "clause", desc := "()I" } : Jvm.MethodName) prog_20_method_50_code (5 : Nat) (Option.some Jvm.ClassFile.FieldType.int)) ∈ lw_all := lw_g (lw_at lw_m6 215 rfl) rfl
theorem q1536 : (Jvm.Cond.methodLink "RailingsCountModel" (229 : Nat) ({ cls := "RailingsCountModel", name := "sortOf", desc := "()I" } : Jvm.MethodName)) ∈ lw_all := lw_g (lw_at lw_m6 216 rfl) rfl
theorem q1537 : (Jvm.Cond.privateMethod ({ cls := "RailingsCountModel", name := "sortOf", desc := "()I" } : Jvm.MethodName)) ∈ lw_tbl := lw_at lw_m6 217 rfl
theorem q1538 : (Jvm.Cond.instanceMethod ({ cls := "RailingsCountModel", name := "sortOf", desc := "()I" } : Jvm.MethodName)) ∈ lw_all := lw_g (lw_at lw_m6 218 rfl) rfl
theorem q1539 : (Jvm.Cond.code ({ cls := "RailingsCountModel", name := "sortOf", desc := "()I" } : Jvm.MethodName) prog_20_method_49_code (1 : Nat) (Option.some Jvm.ClassFile.FieldType.int)) ∈ lw_all := lw_g (lw_at lw_m6 219 rfl) rfl
theorem q1540 : (Jvm.Cond.methodLink "RailingsCountModel" (226 : Nat) ({ cls := "RailingsCountModel", name := "isCatches", desc := "()Z" } : Jvm.MethodName)) ∈ lw_all := lw_g (lw_at lw_m6 220 rfl) rfl
theorem q1541 : (Jvm.Cond.privateMethod ({ cls := "RailingsCountModel", name := "isCatches", desc := "()Z" } : Jvm.MethodName)) ∈ lw_tbl := lw_at lw_m6 221 rfl
theorem q1542 : (Jvm.Cond.instanceMethod ({ cls := "RailingsCountModel", name := "isCatches", desc := "()Z" } : Jvm.MethodName)) ∈ lw_all := lw_g (lw_at lw_m6 222 rfl) rfl
theorem q1543 : (Jvm.Cond.code ({ cls := "RailingsCountModel", name := "isCatches", desc := "()Z" } : Jvm.MethodName) prog_20_method_29_code (1 : Nat) (Option.some Jvm.ClassFile.FieldType.boolean)) ∈ lw_all := lw_g (lw_at lw_m6 223 rfl) rfl
theorem q1544 : (Jvm.Cond.methodLink "RailingsCountModel" (128 : Nat) ({ cls := "RailingsCountModel", name := "w4", desc := "(IIII)J" } : Jvm.MethodName)) ∈ lw_all := lw_g (lw_at lw_m6 224 rfl) rfl
theorem q1545 : (Jvm.Cond.static ({ cls := "RailingsCountModel", name := "w4", desc := "(IIII)J" } : Jvm.MethodName)) ∈ lw_all := lw_g (lw_at lw_m6 225 rfl) rfl
theorem q1546 : (Jvm.Cond.code ({ cls := "RailingsCountModel", name := "w4", desc := "(IIII)J" } : Jvm.MethodName) prog_20_method_24_code (4 : Nat) (Option.some Jvm.ClassFile.FieldType.long)) ∈ lw_all := lw_g (lw_at lw_m6 226 rfl) rfl
theorem q1547 : (Jvm.Cond.methodLink "RailingsCountModel" (124 : Nat) ({ cls := "RailingsCountModel", name := "w3", desc := "(III)J" } : Jvm.MethodName)) ∈ lw_all := lw_g (lw_at lw_m6 227 rfl) rfl
theorem q1548 : (Jvm.Cond.static ({ cls := "RailingsCountModel", name := "w3", desc := "(III)J" } : Jvm.MethodName)) ∈ lw_all := lw_g (lw_at lw_m6 228 rfl) rfl
theorem q1549 : (Jvm.Cond.code ({ cls := "RailingsCountModel", name := "w3", desc := "(III)J" } : Jvm.MethodName) prog_20_method_23_code (3 : Nat) (Option.some Jvm.ClassFile.FieldType.long)) ∈ lw_all := lw_g (lw_at lw_m6 229 rfl) rfl
theorem q1550 : (Jvm.Cond.methodLink "RailingsCountModel" (120 : Nat) ({ cls := "RailingsCountModel", name := "w2", desc := "(II)J" } : Jvm.MethodName)) ∈ lw_all := lw_g (lw_at lw_m6 230 rfl) rfl
theorem q1551 : (Jvm.Cond.static ({ cls := "RailingsCountModel", name := "w2", desc := "(II)J" } : Jvm.MethodName)) ∈ lw_all := lw_g (lw_at lw_m6 231 rfl) rfl
theorem q1552 : (Jvm.Cond.code ({ cls := "RailingsCountModel", name := "w2", desc := "(II)J" } : Jvm.MethodName) prog_20_method_22_code (2 : Nat) (Option.some Jvm.ClassFile.FieldType.long)) ∈ lw_all := lw_g (lw_at lw_m6 232 rfl) rfl
theorem q1553 : (Jvm.Cond.methodLink "RailingsCountModel" (142 : Nat) ({ cls := "RailingsCountModel", name := "w6", desc := "(IIIIII)J" } : Jvm.MethodName)) ∈ lw_all := lw_g (lw_at lw_m6 233 rfl) rfl
theorem q1554 : (Jvm.Cond.static ({ cls := "RailingsCountModel", name := "w6", desc := "(IIIIII)J" } : Jvm.MethodName)) ∈ lw_all := lw_g (lw_at lw_m6 234 rfl) rfl
theorem q1555 : (Jvm.Cond.code ({ cls := "RailingsCountModel", name := "w6", desc := "(IIIIII)J" } : Jvm.MethodName) prog_20_method_26_code (6 : Nat) (Option.some Jvm.ClassFile.FieldType.long)) ∈ lw_all := lw_g (lw_at lw_m6 235 rfl) rfl
theorem q1556 : (Jvm.Cond.methodLink "RailingsCountModel" (132 : Nat) ({ cls := "RailingsCountModel", name := "w5", desc := "(IIIII)J" } : Jvm.MethodName)) ∈ lw_all := lw_g (lw_at lw_m6 236 rfl) rfl
theorem q1557 : (Jvm.Cond.static ({ cls := "RailingsCountModel", name := "w5", desc := "(IIIII)J" } : Jvm.MethodName)) ∈ lw_all := lw_g (lw_at lw_m6 237 rfl) rfl
theorem q1558 : (Jvm.Cond.code ({ cls := "RailingsCountModel", name := "w5", desc := "(IIIII)J" } : Jvm.MethodName) prog_20_method_25_code (5 : Nat) (Option.some Jvm.ClassFile.FieldType.long)) ∈ lw_all := lw_g (lw_at lw_m6 238 rfl) rfl
theorem q1559 : (Jvm.Cond.methodLink "RailingsCountModel" (180 : Nat) ({ cls := "RailingsCountModel", name := "isWord", desc := "(J)Z" } : Jvm.MethodName)) ∈ lw_all := lw_g (lw_at lw_m6 239 rfl) rfl
theorem q1560 : (Jvm.Cond.privateMethod ({ cls := "RailingsCountModel", name := "isWord", desc := "(J)Z" } : Jvm.MethodName)) ∈ lw_tbl := lw_at lw_m7 0 rfl
theorem q1561 : (Jvm.Cond.instanceMethod ({ cls := "RailingsCountModel", name := "isWord", desc := "(J)Z" } : Jvm.MethodName)) ∈ lw_all := lw_g (lw_at lw_m7 1 rfl) rfl
theorem q1562 : (Jvm.Cond.code ({ cls := "RailingsCountModel", name := "isWord", desc := "(J)Z" } : Jvm.MethodName) prog_20_method_27_code (3 : Nat) (Option.some Jvm.ClassFile.FieldType.boolean)) ∈ lw_all := lw_g (lw_at lw_m7 2 rfl) rfl
theorem q1563 : (Jvm.Cond.methodLink "RailingsCountModel" (235 : Nat) ({ cls := "RailingsCountModel", name := "has", desc := "(II)Z" } : Jvm.MethodName)) ∈ lw_all := lw_g (lw_at lw_m7 3 rfl) rfl
theorem q1564 : (Jvm.Cond.static ({ cls := "RailingsCountModel", name := "has", desc := "(II)Z" } : Jvm.MethodName)) ∈ lw_all := lw_g (lw_at lw_m7 4 rfl) rfl
theorem q1565 : (Jvm.Cond.code ({ cls := "RailingsCountModel", name := "has", desc := "(II)Z" } : Jvm.MethodName) prog_20_method_5_code (2 : Nat) (Option.some Jvm.ClassFile.FieldType.boolean)) ∈ lw_all := lw_g (lw_at lw_m7 5 rfl) rfl
theorem q1566 : (Jvm.Cond.methodLink "RailingsCountModel" (239 : Nat) ({ cls := "RailingsCountModel", name := "body", desc := "(II)I" } : Jvm.MethodName)) ∈ lw_all := lw_g (lw_at lw_m7 6 rfl) rfl
theorem q1567 : (Jvm.Cond.privateMethod ({ cls := "RailingsCountModel", name := "body", desc := "(II)I" } : Jvm.MethodName)) ∈ lw_tbl := lw_at lw_m7 7 rfl
theorem q1568 : (Jvm.Cond.instanceMethod ({ cls := "RailingsCountModel", name := "body", desc := "(II)I" } : Jvm.MethodName)) ∈ lw_all := lw_g (lw_at lw_m7 8 rfl) rfl
theorem q1569 : (Jvm.Cond.code ({ cls := "RailingsCountModel", name := "body", desc := "(II)I" } : Jvm.MethodName) prog_20_method_48_code (3 : Nat) (Option.some Jvm.ClassFile.FieldType.int)) ∈ lw_all := lw_g (lw_at lw_m7 9 rfl) rfl
theorem q1570 : (Jvm.Cond.methodLink "RailingsCountModel" (219 : Nat) ({ cls := "RailingsCountModel", name := "pair", desc := "(IIIJI)I" } : Jvm.MethodName)) ∈ lw_all := lw_g (lw_at lw_m7 10 rfl) rfl
theorem q1571 : (Jvm.Cond.privateMethod ({ cls := "RailingsCountModel", name := "pair", desc := "(IIIJI)I" } : Jvm.MethodName)) ∈ lw_tbl := lw_at lw_m7 11 rfl
theorem q1572 : (Jvm.Cond.instanceMethod ({ cls := "RailingsCountModel", name := "pair", desc := "(IIIJI)I" } : Jvm.MethodName)) ∈ lw_all := lw_g (lw_at lw_m7 12 rfl) rfl
theorem q1573 : (Jvm.Cond.code ({ cls := "RailingsCountModel", name := "pair", desc := "(IIIJI)I" } : Jvm.MethodName) prog_20_method_47_code (8 : Nat) (Option.some Jvm.ClassFile.FieldType.int)) ∈ lw_all := lw_g (lw_at lw_m7 13 rfl) rfl
theorem q1574 : (Jvm.Cond.methodLink "RailingsCountModel" (215 : Nat) ({ cls := "RailingsCountModel", name := "figure", desc := "(III)I" } : Jvm.MethodName)) ∈ lw_all := lw_g (lw_at lw_m7 14 rfl) rfl
theorem q1575 : (Jvm.Cond.privateMethod ({ cls := "RailingsCountModel", name := "figure", desc := "(III)I" } : Jvm.MethodName)) ∈ lw_tbl := lw_at lw_m7 15 rfl
theorem q1576 : (Jvm.Cond.instanceMethod ({ cls := "RailingsCountModel", name := "figure", desc := "(III)I" } : Jvm.MethodName)) ∈ lw_all := lw_g (lw_at lw_m7 16 rfl) rfl
theorem q1577 : (Jvm.Cond.code ({ cls := "RailingsCountModel", name := "figure", desc := "(III)I" } : Jvm.MethodName) prog_20_method_45_code (4 : Nat) (Option.some Jvm.ClassFile.FieldType.int)) ∈ lw_all := lw_g (lw_at lw_m7 17 rfl) rfl
theorem q1578 : (Jvm.Cond.methodLink "RailingsCountModel" (223 : Nat) ({ cls := "RailingsCountModel", name := "lawClause", desc := "(I)I" } : Jvm.MethodName)) ∈ lw_all := lw_g (lw_at lw_m7 18 rfl) rfl
theorem q1579 : (Jvm.Cond.privateMethod ({ cls := "RailingsCountModel", name := "lawClause", desc := "(I)I" } : Jvm.MethodName)) ∈ lw_tbl := lw_at lw_m7 19 rfl
theorem q1580 : (Jvm.Cond.instanceMethod ({ cls := "RailingsCountModel", name := "lawClause", desc := "(I)I" } : Jvm.MethodName)) ∈ lw_all := lw_g (lw_at lw_m7 20 rfl) rfl
theorem q1581 : (Jvm.Cond.code ({ cls := "RailingsCountModel", name := "lawClause", desc := "(I)I" } : Jvm.MethodName) prog_20_method_46_code (3 : Nat) (Option.some Jvm.ClassFile.FieldType.int)) ∈ lw_all := lw_g (lw_at lw_m7 21 rfl) rfl
theorem q1582 : (Jvm.Cond.methodLink "RailingsCountModel" (212 : Nat) ({ cls := "RailingsCountModel", name := "summed", desc := "()I" } : Jvm.MethodName)) ∈ lw_all := lw_g (lw_at lw_m7 22 rfl) rfl
theorem q1583 : (Jvm.Cond.privateMethod ({ cls := "RailingsCountModel", name := "summed", desc := "()I" } : Jvm.MethodName)) ∈ lw_tbl := lw_at lw_m7 23 rfl
theorem q1584 : (Jvm.Cond.instanceMethod ({ cls := "RailingsCountModel", name := "summed", desc := "()I" } : Jvm.MethodName)) ∈ lw_all := lw_g (lw_at lw_m7 24 rfl) rfl
theorem q1585 : (Jvm.Cond.code ({ cls := "RailingsCountModel", name := "summed", desc := "()I" } : Jvm.MethodName) prog_20_method_44_code (2 : Nat) (Option.some Jvm.ClassFile.FieldType.int)) ∈ lw_all := lw_g (lw_at lw_m7 25 rfl) rfl
theorem q1586 : (Jvm.Cond.methodLink "RailingsCountModel" (206 : Nat) ({ cls := "RailingsCountModel", name := "behindOne", desc := "()I" } : Jvm.MethodName)) ∈ lw_all := lw_g (lw_at lw_m7 26 rfl) rfl
theorem q1587 : (Jvm.Cond.privateMethod ({ cls := "RailingsCountModel", name := "behindOne", desc := "()I" } : Jvm.MethodName)) ∈ lw_tbl := lw_at lw_m7 27 rfl
theorem q1588 : (Jvm.Cond.instanceMethod ({ cls := "RailingsCountModel", name := "behindOne", desc := "()I" } : Jvm.MethodName)) ∈ lw_all := lw_g (lw_at lw_m7 28 rfl) rfl
theorem q1589 : (Jvm.Cond.code ({ cls := "RailingsCountModel", name := "behindOne", desc := "()I" } : Jvm.MethodName) prog_20_method_43_code (4 : Nat) (Option.some Jvm.ClassFile.FieldType.int)) ∈ lw_all := lw_g (lw_at lw_m7 29 rfl) rfl
theorem q1590 : (Jvm.Cond.methodLink "RailingsCountModel" (200 : Nat) ({ cls := "RailingsCountModel", name := "betweenOf", desc := "()I" } : Jvm.MethodName)) ∈ lw_all := lw_g (lw_at lw_m7 30 rfl) rfl
theorem q1591 : (Jvm.Cond.privateMethod ({ cls := "RailingsCountModel", name := "betweenOf", desc := "()I" } : Jvm.MethodName)) ∈ lw_tbl := lw_at lw_m7 31 rfl
theorem q1592 : (Jvm.Cond.instanceMethod ({ cls := "RailingsCountModel", name := "betweenOf", desc := "()I" } : Jvm.MethodName)) ∈ lw_all := lw_g (lw_at lw_m7 32 rfl) rfl
theorem q1593 : (Jvm.Cond.code ({ cls := "RailingsCountModel", name := "betweenOf", desc := "()I" } : Jvm.MethodName) prog_20_method_41_code (1 : Nat) (Option.some Jvm.ClassFile.FieldType.int)) ∈ lw_all := lw_g (lw_at lw_m7 33 rfl) rfl
theorem q1594 : (Jvm.Cond.methodLink "RailingsCountModel" (162 : Nat) ({ cls := "RailingsCountModel", name := "openNow", desc := "()I" } : Jvm.MethodName)) ∈ lw_all := lw_g (lw_at lw_m7 34 rfl) rfl
theorem q1595 : (Jvm.Cond.privateMethod ({ cls := "RailingsCountModel", name := "openNow", desc := "()I" } : Jvm.MethodName)) ∈ lw_tbl := lw_at lw_m7 35 rfl
theorem q1596 : (Jvm.Cond.instanceMethod ({ cls := "RailingsCountModel", name := "openNow", desc := "()I" } : Jvm.MethodName)) ∈ lw_all := lw_g (lw_at lw_m7 36 rfl) rfl
theorem q1597 : (Jvm.Cond.code ({ cls := "RailingsCountModel", name := "openNow", desc := "()I" } : Jvm.MethodName) prog_20_method_34_code (1 : Nat) (Option.some Jvm.ClassFile.FieldType.int)) ∈ lw_all := lw_g (lw_at lw_m7 37 rfl) rfl
theorem q1598 : (Jvm.Cond.methodLink "RailingsCountModel" (158 : Nat) ({ cls := "RailingsCountModel", name := "openAt", desc := "()I" } : Jvm.MethodName)) ∈ lw_all := lw_g (lw_at lw_m7 38 rfl) rfl
theorem q1599 : (Jvm.Cond.privateMethod ({ cls := "RailingsCountModel", name := "openAt", desc := "()I" } : Jvm.MethodName)) ∈ lw_tbl := lw_at lw_m7 39 rfl
theorem q1600 : (Jvm.Cond.instanceMethod ({ cls := "RailingsCountModel", name := "openAt", desc := "()I" } : Jvm.MethodName)) ∈ lw_all := lw_g (lw_at lw_m7 40 rfl) rfl
theorem q1601 : (Jvm.Cond.code ({ cls := "RailingsCountModel", name := "openAt", desc := "()I" } : Jvm.MethodName) prog_20_method_33_code (2 : Nat) (Option.some Jvm.ClassFile.FieldType.int)) ∈ lw_all := lw_g (lw_at lw_m7 41 rfl) rfl
theorem q1602 : (Jvm.Cond.methodLink "RailingsCountModel" (194 : Nat) ({ cls := "RailingsCountModel", name := "isCompared", desc := "()Z" } : Jvm.MethodName)) ∈ lw_all := lw_g (lw_at lw_m7 42 rfl) rfl
theorem q1603 : (Jvm.Cond.privateMethod ({ cls := "RailingsCountModel", name := "isCompared", desc := "()Z" } : Jvm.MethodName)) ∈ lw_tbl := lw_at lw_m7 43 rfl
theorem q1604 : (Jvm.Cond.instanceMethod ({ cls := "RailingsCountModel", name := "isCompared", desc := "()Z" } : Jvm.MethodName)) ∈ lw_all := lw_g (lw_at lw_m7 44 rfl) rfl
theorem q1605 : (Jvm.Cond.code ({ cls := "RailingsCountModel", name := "isCompared", desc := "()Z" } : Jvm.MethodName) prog_20_method_35_code (2 : Nat) (Option.some Jvm.ClassFile.FieldType.boolean)) ∈ lw_all := lw_g (lw_at lw_m7 45 rfl) rfl
theorem q1606 : (Jvm.Cond.methodLink "RailingsCountModel" (149 : Nat) ({ cls := "RailingsCountModel", name := "rank", desc := "(I)I" } : Jvm.MethodName)) ∈ lw_all := lw_g (lw_at lw_m7 46 rfl) rfl
theorem q1607 : (Jvm.Cond.static ({ cls := "RailingsCountModel", name := "rank", desc := "(I)I" } : Jvm.MethodName)) ∈ lw_all := lw_g (lw_at lw_m7 47 rfl) rfl
theorem q1608 : (Jvm.Cond.code ({ cls := "RailingsCountModel", name := "rank", desc := "(I)I" } : Jvm.MethodName) prog_20_method_31_code (1 : Nat) (Option.some Jvm.ClassFile.FieldType.int)) ∈ lw_all := lw_g (lw_at lw_m7 48 rfl) rfl
theorem q1609 : (Jvm.Cond.methodLink "RailingsCountModel" (197 : Nat) ({ cls := "RailingsCountModel", name := "compareOf", desc := "()I" } : Jvm.MethodName)) ∈ lw_all := lw_g (lw_at lw_m7 49 rfl) rfl
theorem q1610 : (Jvm.Cond.privateMethod ({ cls := "RailingsCountModel", name := "compareOf", desc := "()I" } : Jvm.MethodName)) ∈ lw_tbl := lw_at lw_m7 50 rfl
theorem q1611 : (Jvm.Cond.instanceMethod ({ cls := "RailingsCountModel", name := "compareOf", desc := "()I" } : Jvm.MethodName)) ∈ lw_all := lw_g (lw_at lw_m7 51 rfl) rfl
theorem q1612 : (Jvm.Cond.code ({ cls := "RailingsCountModel", name := "compareOf", desc := "()I" } : Jvm.MethodName) prog_20_method_40_code (1 : Nat) (Option.some Jvm.ClassFile.FieldType.int)) ∈ lw_all := lw_g (lw_at lw_m7 52 rfl) rfl
theorem q1613 : (Jvm.Cond.methodLink "RailingsCountModel" (188 : Nat) ({ cls := "RailingsCountModel", name := "settle", desc := "(I)V" } : Jvm.MethodName)) ∈ lw_all := lw_g (lw_at lw_m7 53 rfl) rfl
theorem q1614 : (Jvm.Cond.privateMethod ({ cls := "RailingsCountModel", name := "settle", desc := "(I)V" } : Jvm.MethodName)) ∈ lw_tbl := lw_at lw_m7 54 rfl
theorem q1615 : (Jvm.Cond.instanceMethod ({ cls := "RailingsCountModel", name := "settle", desc := "(I)V" } : Jvm.MethodName)) ∈ lw_all := lw_g (lw_at lw_m7 55 rfl) rfl
theorem q1616 : (Jvm.Cond.code ({ cls := "RailingsCountModel", name := "settle", desc := "(I)V" } : Jvm.MethodName) prog_20_method_32_code (2 : Nat) (Option.none : Option Jvm.ClassFile.FieldType)) ∈ lw_all := lw_g (lw_at lw_m7 56 rfl) rfl
theorem q1617 : (Jvm.Cond.methodLink "RailingsCountModel" (152 : Nat) ({ cls := "RailingsCountModel", name := "emit", desc := "(II)V" } : Jvm.MethodName)) ∈ lw_all := lw_g (lw_at lw_m7 57 rfl) rfl
theorem q1618 : (Jvm.Cond.privateMethod ({ cls := "RailingsCountModel", name := "emit", desc := "(II)V" } : Jvm.MethodName)) ∈ lw_tbl := lw_at lw_m7 58 rfl
theorem q1619 : (Jvm.Cond.instanceMethod ({ cls := "RailingsCountModel", name := "emit", desc := "(II)V" } : Jvm.MethodName)) ∈ lw_all := lw_g (lw_at lw_m7 59 rfl) rfl
theorem q1620 : (Jvm.Cond.code ({ cls := "RailingsCountModel", name := "emit", desc := "(II)V" } : Jvm.MethodName) prog_20_method_28_code (3 : Nat) (Option.none : Option Jvm.ClassFile.FieldType)) ∈ lw_all := lw_g (lw_at lw_m7 60 rfl) rfl
theorem q1621 : (Jvm.Cond.methodLink "RailingsCountModel" (203 : Nat) ({ cls := "RailingsCountModel", name := "partOf", desc := "(I)I" } : Jvm.MethodName)) ∈ lw_all := lw_g (lw_at lw_m7 61 rfl) rfl
theorem q1622 : (Jvm.Cond.privateMethod ({ cls := "RailingsCountModel", name := "partOf", desc := "(I)I" } : Jvm.MethodName)) ∈ lw_tbl := lw_at lw_m7 62 rfl
theorem q1623 : (Jvm.Cond.instanceMethod ({ cls := "RailingsCountModel", name := "partOf", desc := "(I)I" } : Jvm.MethodName)) ∈ lw_all := lw_g (lw_at lw_m7 63 rfl) rfl
theorem q1624 : (Jvm.Cond.code ({ cls := "RailingsCountModel", name := "partOf", desc := "(I)I" } : Jvm.MethodName) prog_20_method_42_code (2 : Nat) (Option.some Jvm.ClassFile.FieldType.int)) ∈ lw_all := lw_g (lw_at lw_m7 64 rfl) rfl
theorem q1625 : (Jvm.Cond.methodLink "RailingsCountModel" (174 : Nat) ({ cls := "RailingsCountModel", name := "endOne", desc := "()I" } : Jvm.MethodName)) ∈ lw_all := lw_g (lw_at lw_m7 65 rfl) rfl
theorem q1626 : (Jvm.Cond.privateMethod ({ cls := "RailingsCountModel", name := "endOne", desc := "()I" } : Jvm.MethodName)) ∈ lw_tbl := lw_at lw_m7 66 rfl
theorem q1627 : (Jvm.Cond.instanceMethod ({ cls := "RailingsCountModel", name := "endOne", desc := "()I" } : Jvm.MethodName)) ∈ lw_all := lw_g (lw_at lw_m7 67 rfl) rfl
theorem q1628 : (Jvm.Cond.code ({ cls := "RailingsCountModel", name := "endOne", desc := "()I" } : Jvm.MethodName) prog_20_method_39_code (1 : Nat) (Option.some Jvm.ClassFile.FieldType.int)) ∈ lw_all := lw_g (lw_at lw_m7 68 rfl) rfl
theorem q1629 : (Jvm.Cond.methodLink "RailingsCountModel" (209 : Nat) ({ cls := "RailingsCountModel", name := "beginOne", desc := "()I" } : Jvm.MethodName)) ∈ lw_all := lw_g (lw_at lw_m7 69 rfl) rfl
theorem q1630 : (Jvm.Cond.privateMethod ({ cls := "RailingsCountModel", name := "beginOne", desc := "()I" } : Jvm.MethodName)) ∈ lw_tbl := lw_at lw_m7 70 rfl
theorem q1631 : (Jvm.Cond.instanceMethod ({ cls := "RailingsCountModel", name := "beginOne", desc := "()I" } : Jvm.MethodName)) ∈ lw_all := lw_g (lw_at lw_m7 71 rfl) rfl
theorem q1632 : (Jvm.Cond.code ({ cls := "RailingsCountModel", name := "beginOne", desc := "()I" } : Jvm.MethodName) prog_20_method_38_code (2 : Nat) (Option.some Jvm.ClassFile.FieldType.int)) ∈ lw_all := lw_g (lw_at lw_m7 72 rfl) rfl
theorem q1633 : (Jvm.Cond.methodLink "RailingsCountModel" (168 : Nat) ({ cls := "RailingsCountModel", name := "nameOf", desc := "()I" } : Jvm.MethodName)) ∈ lw_all := lw_g (lw_at lw_m7 73 rfl) rfl
theorem q1634 : (Jvm.Cond.privateMethod ({ cls := "RailingsCountModel", name := "nameOf", desc := "()I" } : Jvm.MethodName)) ∈ lw_tbl := lw_at lw_m7 74 rfl
theorem q1635 : (Jvm.Cond.instanceMethod ({ cls := "RailingsCountModel", name := "nameOf", desc := "()I" } : Jvm.MethodName)) ∈ lw_all := lw_g (lw_at lw_m7 75 rfl) rfl
theorem q1636 : (Jvm.Cond.code ({ cls := "RailingsCountModel", name := "nameOf", desc := "()I" } : Jvm.MethodName) prog_20_method_30_code (1 : Nat) (Option.some Jvm.ClassFile.FieldType.int)) ∈ lw_all := lw_g (lw_at lw_m7 76 rfl) rfl
theorem q1637 : (Jvm.Cond.methodLink "RailingsCountModel" (177 : Nat) ({ cls := "RailingsCountModel", name := "opened", desc := "(I)I" } : Jvm.MethodName)) ∈ lw_all := lw_g (lw_at lw_m7 77 rfl) rfl
theorem q1638 : (Jvm.Cond.privateMethod ({ cls := "RailingsCountModel", name := "opened", desc := "(I)I" } : Jvm.MethodName)) ∈ lw_tbl := lw_at lw_m7 78 rfl
theorem q1639 : (Jvm.Cond.instanceMethod ({ cls := "RailingsCountModel", name := "opened", desc := "(I)I" } : Jvm.MethodName)) ∈ lw_all := lw_g (lw_at lw_m7 79 rfl) rfl
theorem q1640 : (Jvm.Cond.code ({ cls := "RailingsCountModel", name := "opened", desc := "(I)I" } : Jvm.MethodName) prog_20_method_37_code (2 : Nat) (Option.some Jvm.ClassFile.FieldType.int)) ∈ lw_all := lw_g (lw_at lw_m7 80 rfl) rfl
theorem q1641 : (Jvm.Cond.methodLink "RailingsCountModel" (184 : Nat) ({ cls := "RailingsCountModel", name := "isAskAhead", desc := "()Z" } : Jvm.MethodName)) ∈ lw_all := lw_g (lw_at lw_m7 81 rfl) rfl
theorem q1642 : (Jvm.Cond.privateMethod ({ cls := "RailingsCountModel", name := "isAskAhead", desc := "()Z" } : Jvm.MethodName)) ∈ lw_tbl := lw_at lw_m7 82 rfl
theorem q1643 : (Jvm.Cond.instanceMethod ({ cls := "RailingsCountModel", name := "isAskAhead", desc := "()Z" } : Jvm.MethodName)) ∈ lw_all := lw_g (lw_at lw_m7 83 rfl) rfl
theorem q1644 : (Jvm.Cond.code ({ cls := "RailingsCountModel", name := "isAskAhead", desc := "()Z" } : Jvm.MethodName) prog_20_method_36_code (1 : Nat) (Option.some Jvm.ClassFile.FieldType.boolean)) ∈ lw_all := lw_g (lw_at lw_m7 84 rfl) rfl
theorem q1646 : (Jvm.Cond.instanceMethod ({ cls := "RailingsCountModel", name := "fault", desc := "(I)I" } : Jvm.MethodName)) ∈ lw_all := lw_g (lw_at lw_m7 86 rfl) rfl
theorem q1647 : (Jvm.Cond.selects "RailingsCountModel" ({ cls := "RailingsCountModel", name := "fault", desc := "(I)I" } : Jvm.MethodName) ({ cls := "RailingsCountModel", name := "fault", desc := "(I)I" } : Jvm.MethodName)) ∈ lw_all := lw_g (lw_at lw_m7 87 rfl) rfl
theorem q1648 : (Jvm.Cond.code ({ cls := "RailingsCountModel", name := "fault", desc := "(I)I" } : Jvm.MethodName) prog_20_method_53_code (2 : Nat) (Option.some Jvm.ClassFile.FieldType.int)) ∈ lw_all := lw_g (lw_at lw_m7 88 rfl) rfl
theorem q1650 : (Jvm.Cond.instanceMethod ({ cls := "RailingsCountModel", name := "by", desc := "(I)Z" } : Jvm.MethodName)) ∈ lw_all := lw_g (lw_at lw_m7 90 rfl) rfl
theorem q1651 : (Jvm.Cond.selects "RailingsCountModel" ({ cls := "RailingsCountModel", name := "by", desc := "(I)Z" } : Jvm.MethodName) ({ cls := "RailingsCountModel", name := "by", desc := "(I)Z" } : Jvm.MethodName)) ∈ lw_all := lw_g (lw_at lw_m7 91 rfl) rfl
theorem q1652 : (Jvm.Cond.code ({ cls := "RailingsCountModel", name := "by", desc := "(I)Z" } : Jvm.MethodName) prog_20_method_54_code (2 : Nat) (Option.some Jvm.ClassFile.FieldType.boolean)) ∈ lw_all := lw_g (lw_at lw_m7 92 rfl) rfl
theorem q1654 : (Jvm.Cond.instanceMethod ({ cls := "RailingsCountModel", name := "undo", desc := "()I" } : Jvm.MethodName)) ∈ lw_all := lw_g (lw_at lw_m7 94 rfl) rfl
theorem q1655 : (Jvm.Cond.selects "RailingsCountModel" ({ cls := "RailingsCountModel", name := "undo", desc := "()I" } : Jvm.MethodName) ({ cls := "RailingsCountModel", name := "undo", desc := "()I" } : Jvm.MethodName)) ∈ lw_all := lw_g (lw_at lw_m7 95 rfl) rfl
theorem q1656 : (Jvm.Cond.code ({ cls := "RailingsCountModel", name := "undo", desc := "()I" } : Jvm.MethodName) prog_20_method_72_code (3 : Nat) (Option.some Jvm.ClassFile.FieldType.int)) ∈ lw_all := lw_g (lw_at lw_m7 96 rfl) rfl
theorem q1658 : (Jvm.Cond.instanceMethod ({ cls := "RailingsCountModel", name := "run", desc := "(II)I" } : Jvm.MethodName)) ∈ lw_all := lw_g (lw_at lw_m7 98 rfl) rfl
theorem q1659 : (Jvm.Cond.selects "RailingsCountModel" ({ cls := "RailingsCountModel", name := "run", desc := "(II)I" } : Jvm.MethodName) ({ cls := "RailingsCountModel", name := "run", desc := "(II)I" } : Jvm.MethodName)) ∈ lw_all := lw_g (lw_at lw_m7 99 rfl) rfl
theorem q1660 : (Jvm.Cond.code ({ cls := "RailingsCountModel", name := "run", desc := "(II)I" } : Jvm.MethodName) prog_20_method_74_code (3 : Nat) (Option.some Jvm.ClassFile.FieldType.int)) ∈ lw_all := lw_g (lw_at lw_m7 100 rfl) rfl
theorem q1661 : (Jvm.Cond.methodLink "RailingsCountModel" (325 : Nat) ({ cls := "RailingsCountModel", name := "canRun", desc := "(I)Z" } : Jvm.MethodName)) ∈ lw_all := lw_g (lw_at lw_m7 101 rfl) rfl
theorem q1662 : (Jvm.Cond.privateMethod ({ cls := "RailingsCountModel", name := "canRun", desc := "(I)Z" } : Jvm.MethodName)) ∈ lw_tbl := lw_at lw_m7 102 rfl
theorem q1663 : (Jvm.Cond.instanceMethod ({ cls := "RailingsCountModel", name := "canRun", desc := "(I)Z" } : Jvm.MethodName)) ∈ lw_all := lw_g (lw_at lw_m7 103 rfl) rfl
theorem q1664 : (Jvm.Cond.code ({ cls := "RailingsCountModel", name := "canRun", desc := "(I)Z" } : Jvm.MethodName) prog_20_method_73_code (2 : Nat) (Option.some Jvm.ClassFile.FieldType.boolean)) ∈ lw_all := lw_g (lw_at lw_m7 104 rfl) rfl
theorem q1665 : (Jvm.Cond.methodLink "RailingsCountModel" (322 : Nat) ({ cls := "RailingsCountModel", name := "isChild", desc := "(I)Z" } : Jvm.MethodName)) ∈ lw_all := lw_g (lw_at lw_m7 105 rfl) rfl
theorem q1666 : (Jvm.Cond.privateMethod ({ cls := "RailingsCountModel", name := "isChild", desc := "(I)Z" } : Jvm.MethodName)) ∈ lw_tbl := lw_at lw_m7 106 rfl
theorem q1667 : (Jvm.Cond.instanceMethod ({ cls := "RailingsCountModel", name := "isChild", desc := "(I)Z" } : Jvm.MethodName)) ∈ lw_all := lw_g (lw_at lw_m7 107 rfl) rfl
theorem q1668 : (Jvm.Cond.code ({ cls := "RailingsCountModel", name := "isChild", desc := "(I)Z" } : Jvm.MethodName) prog_20_method_8_code (2 : Nat) (Option.some Jvm.ClassFile.FieldType.boolean)) ∈ lw_all := lw_g (lw_at lw_m7 108 rfl) rfl
theorem q1669 : (Jvm.Cond.methodLink "RailingsCountModel" (328 : Nat) ({ cls := "RailingsCountModel", name := "keep", desc := "()V" } : Jvm.MethodName)) ∈ lw_all := lw_g (lw_at lw_m7 109 rfl) rfl
theorem q1670 : (Jvm.Cond.privateMethod ({ cls := "RailingsCountModel", name := "keep", desc := "()V" } : Jvm.MethodName)) ∈ lw_tbl := lw_at lw_m7 110 rfl
theorem q1671 : (Jvm.Cond.instanceMethod ({ cls := "RailingsCountModel", name := "keep", desc := "()V" } : Jvm.MethodName)) ∈ lw_all := lw_g (lw_at lw_m7 111 rfl) rfl
theorem q1672 : (Jvm.Cond.code ({ cls := "RailingsCountModel", name := "keep", desc := "()V" } : Jvm.MethodName) prog_20_method_71_code (3 : Nat) (Option.none : Option Jvm.ClassFile.FieldType)) ∈ lw_all := lw_g (lw_at lw_m7 112 rfl) rfl
theorem q1673 : (Jvm.Cond.methodLink "RailingsCountModel" (316 : Nat) ({ cls := "RailingsCountModel", name := "runNow", desc := "(II)V" } : Jvm.MethodName)) ∈ lw_all := lw_g (lw_at lw_m7 113 rfl) rfl
theorem q1674 : (Jvm.Cond.privateMethod ({ cls := "RailingsCountModel", name := "runNow", desc := "(II)V" } : Jvm.MethodName)) ∈ lw_tbl := lw_at lw_m7 114 rfl
theorem q1675 : (Jvm.Cond.instanceMethod ({ cls := "RailingsCountModel", name := "runNow", desc := "(II)V" } : Jvm.MethodName)) ∈ lw_all := lw_g (lw_at lw_m7 115 rfl) rfl
theorem q1676 : (Jvm.Cond.code ({ cls := "RailingsCountModel", name := "runNow", desc := "(II)V" } : Jvm.MethodName) prog_20_method_69_code (8 : Nat) (Option.none : Option Jvm.ClassFile.FieldType)) ∈ lw_all := lw_g (lw_at lw_m7 116 rfl) rfl
theorem q1677 : (Jvm.Cond.methodLink "RailingsCountModel" (300 : Nat) ({ cls := "RailingsCountModel", name := "isBar", desc := "(I)Z" } : Jvm.MethodName)) ∈ lw_all := lw_g (lw_at lw_m7 117 rfl) rfl
theorem q1678 : (Jvm.Cond.privateMethod ({ cls := "RailingsCountModel", name := "isBar", desc := "(I)Z" } : Jvm.MethodName)) ∈ lw_tbl := lw_at lw_m7 118 rfl
theorem q1679 : (Jvm.Cond.instanceMethod ({ cls := "RailingsCountModel", name := "isBar", desc := "(I)Z" } : Jvm.MethodName)) ∈ lw_all := lw_g (lw_at lw_m7 119 rfl) rfl
theorem q1680 : (Jvm.Cond.code ({ cls := "RailingsCountModel", name := "isBar", desc := "(I)Z" } : Jvm.MethodName) prog_20_method_9_code (2 : Nat) (Option.some Jvm.ClassFile.FieldType.boolean)) ∈ lw_all := lw_g (lw_at lw_m7 120 rfl) rfl
theorem q1681 : (Jvm.Cond.methodLink "RailingsCountModel" (303 : Nat) ({ cls := "RailingsCountModel", name := "catchesOf", desc := "(IIII)I" } : Jvm.MethodName)) ∈ lw_all := lw_g (lw_at lw_m7 121 rfl) rfl
theorem q1682 : (Jvm.Cond.privateMethod ({ cls := "RailingsCountModel", name := "catchesOf", desc := "(IIII)I" } : Jvm.MethodName)) ∈ lw_tbl := lw_at lw_m7 122 rfl
theorem q1683 : (Jvm.Cond.instanceMethod ({ cls := "RailingsCountModel", name := "catchesOf", desc := "(IIII)I" } : Jvm.MethodName)) ∈ lw_all := lw_g (lw_at lw_m7 123 rfl) rfl
theorem q1684 : (Jvm.Cond.code ({ cls := "RailingsCountModel", name := "catchesOf", desc := "(IIII)I" } : Jvm.MethodName) prog_20_method_64_code (5 : Nat) (Option.some Jvm.ClassFile.FieldType.int)) ∈ lw_all := lw_g (lw_at lw_m7 124 rfl) rfl
theorem q1685 : (Jvm.Cond.methodLink "RailingsCountModel" (285 : Nat) ({ cls := "RailingsCountModel", name := "name", desc := "(I)V" } : Jvm.MethodName)) ∈ lw_all := lw_g (lw_at lw_m7 125 rfl) rfl
theorem q1686 : (Jvm.Cond.privateMethod ({ cls := "RailingsCountModel", name := "name", desc := "(I)V" } : Jvm.MethodName)) ∈ lw_tbl := lw_at lw_m7 126 rfl
theorem q1687 : (Jvm.Cond.instanceMethod ({ cls := "RailingsCountModel", name := "name", desc := "(I)V" } : Jvm.MethodName)) ∈ lw_all := lw_g (lw_at lw_m7 127 rfl) rfl
theorem q1688 : (Jvm.Cond.code ({ cls := "RailingsCountModel", name := "name", desc := "(I)V" } : Jvm.MethodName) prog_20_method_63_code (2 : Nat) (Option.none : Option Jvm.ClassFile.FieldType)) ∈ lw_all := lw_g (lw_at lw_m7 128 rfl) rfl
theorem q1689 : (Jvm.Cond.methodLink "RailingsCountModel" (288 : Nat) ({ cls := "RailingsCountModel", name := "says", desc := "(III)I" } : Jvm.MethodName)) ∈ lw_all := lw_g (lw_at lw_m7 129 rfl) rfl
theorem q1690 : (Jvm.Cond.privateMethod ({ cls := "RailingsCountModel", name := "says", desc := "(III)I" } : Jvm.MethodName)) ∈ lw_tbl := lw_at lw_m7 130 rfl
theorem q1691 : (Jvm.Cond.instanceMethod ({ cls := "RailingsCountModel", name := "says", desc := "(III)I" } : Jvm.MethodName)) ∈ lw_all := lw_g (lw_at lw_m7 131 rfl) rfl
theorem q1692 : (Jvm.Cond.code ({ cls := "RailingsCountModel", name := "says", desc := "(III)I" } : Jvm.MethodName) prog_20_method_62_code (5 : Nat) (Option.some Jvm.ClassFile.FieldType.int)) ∈ lw_all := lw_g (lw_at lw_m7 132 rfl) rfl
theorem q1693 : (Jvm.Cond.methodLink "RailingsCountModel" (278 : Nat) ({ cls := "RailingsCountModel", name := "summedUp", desc := "(II)J" } : Jvm.MethodName)) ∈ lw_all := lw_g (lw_at lw_m7 133 rfl) rfl
theorem q1694 : (Jvm.Cond.privateMethod ({ cls := "RailingsCountModel", name := "summedUp", desc := "(II)J" } : Jvm.MethodName)) ∈ lw_tbl := lw_at lw_m7 134 rfl
theorem q1695 : (Jvm.Cond.instanceMethod ({ cls := "RailingsCountModel", name := "summedUp", desc := "(II)J" } : Jvm.MethodName)) ∈ lw_all := lw_g (lw_at lw_m7 135 rfl) rfl
theorem q1696 : (Jvm.Cond.code ({ cls := "RailingsCountModel", name := "summedUp", desc := "(II)J" } : Jvm.MethodName) prog_20_method_61_code (10 : Nat) (Option.some Jvm.ClassFile.FieldType.long)) ∈ lw_all := lw_g (lw_at lw_m7 136 rfl) rfl
theorem q1697 : (Jvm.Cond.methodLink "RailingsCountModel" (259 : Nat) ({ cls := "RailingsCountModel", name := "kindAt", desc := "(J)J" } : Jvm.MethodName)) ∈ lw_all := lw_g (lw_at lw_m7 137 rfl) rfl
theorem q1698 : (Jvm.Cond.privateMethod ({ cls := "RailingsCountModel", name := "kindAt", desc := "(J)J" } : Jvm.MethodName)) ∈ lw_tbl := lw_at lw_m7 138 rfl
theorem q1699 : (Jvm.Cond.instanceMethod ({ cls := "RailingsCountModel", name := "kindAt", desc := "(J)J" } : Jvm.MethodName)) ∈ lw_all := lw_g (lw_at lw_m7 139 rfl) rfl
theorem q1700 : (Jvm.Cond.code ({ cls := "RailingsCountModel", name := "kindAt", desc := "(J)J" } : Jvm.MethodName) prog_20_method_58_code (3 : Nat) (Option.some Jvm.ClassFile.FieldType.long)) ∈ lw_all := lw_g (lw_at lw_m7 140 rfl) rfl
theorem q1701 : (Jvm.Cond.constantLong "RailingsCountModel" (257 : Nat) (30 : Int64)) ∈ lw_all := lw_g (lw_at lw_m7 141 rfl) rfl
theorem q1702 : (Jvm.Cond.methodLink "RailingsCountModel" (262 : Nat) ({ cls := "RailingsCountModel", name := "roundOf", desc := "(JJ)J" } : Jvm.MethodName)) ∈ lw_all := lw_g (lw_at lw_m7 142 rfl) rfl
theorem q1703 : (Jvm.Cond.static ({ cls := "RailingsCountModel", name := "roundOf", desc := "(JJ)J" } : Jvm.MethodName)) ∈ lw_all := lw_g (lw_at lw_m7 143 rfl) rfl
theorem q1704 : (Jvm.Cond.code ({ cls := "RailingsCountModel", name := "roundOf", desc := "(JJ)J" } : Jvm.MethodName) prog_20_method_59_code (4 : Nat) (Option.some Jvm.ClassFile.FieldType.long)) ∈ lw_all := lw_g (lw_at lw_m7 144 rfl) rfl
theorem q1705 : (Jvm.Cond.methodLink "RailingsCountModel" (266 : Nat) ({ cls := "RailingsCountModel", name := "two", desc := "(IJJ)J" } : Jvm.MethodName)) ∈ lw_all := lw_g (lw_at lw_m7 145 rfl) rfl
theorem q1706 : (Jvm.Cond.static ({ cls := "RailingsCountModel", name := "two", desc := "(IJJ)J" } : Jvm.MethodName)) ∈ lw_all := lw_g (lw_at lw_m7 146 rfl) rfl
theorem q1707 : (Jvm.Cond.code ({ cls := "RailingsCountModel", name := "two", desc := "(IJJ)J" } : Jvm.MethodName) prog_20_method_56_code (5 : Nat) (Option.some Jvm.ClassFile.FieldType.long)) ∈ lw_all := lw_g (lw_at lw_m7 147 rfl) rfl
theorem q1708 : (Jvm.Cond.methodLink "RailingsCountModel" (253 : Nat) ({ cls := "RailingsCountModel", name := "clip", desc := "(J)J" } : Jvm.MethodName)) ∈ lw_all := lw_g (lw_at lw_m7 148 rfl) rfl
theorem q1709 : (Jvm.Cond.static ({ cls := "RailingsCountModel", name := "clip", desc := "(J)J" } : Jvm.MethodName)) ∈ lw_all := lw_g (lw_at lw_m7 149 rfl) rfl
theorem q1710 : (Jvm.Cond.code ({ cls := "RailingsCountModel", name := "clip", desc := "(J)J" } : Jvm.MethodName) prog_20_method_55_code (2 : Nat) (Option.some Jvm.ClassFile.FieldType.long)) ∈ lw_all := lw_g (lw_at lw_m7 150 rfl) rfl
theorem q1711 : (Jvm.Cond.constantLong "RailingsCountModel" (249 : Nat) (1000000 : Int64)) ∈ lw_all := lw_g (lw_at lw_m7 151 rfl) rfl
theorem q1712 : (Jvm.Cond.constantLong "RailingsCountModel" (251 : Nat) (-1000000 : Int64)) ∈ lw_all := lw_g (lw_at lw_m7 152 rfl) rfl
theorem q1713 : (Jvm.Cond.methodLink "RailingsCountModel" (270 : Nat) ({ cls := "RailingsCountModel", name := "isAsked", desc := "(IJJ)Z" } : Jvm.MethodName)) ∈ lw_all := lw_g (lw_at lw_m7 153 rfl) rfl
theorem q1714 : (Jvm.Cond.static ({ cls := "RailingsCountModel", name := "isAsked", desc := "(IJJ)Z" } : Jvm.MethodName)) ∈ lw_all := lw_g (lw_at lw_m7 154 rfl) rfl
theorem q1715 : (Jvm.Cond.code ({ cls := "RailingsCountModel", name := "isAsked", desc := "(IJJ)Z" } : Jvm.MethodName) prog_20_method_57_code (5 : Nat) (Option.some Jvm.ClassFile.FieldType.boolean)) ∈ lw_all := lw_g (lw_at lw_m7 155 rfl) rfl
theorem q1716 : (Jvm.Cond.methodLink "RailingsCountModel" (274 : Nat) ({ cls := "RailingsCountModel", name := "joined", desc := "(IZZ)Z" } : Jvm.MethodName)) ∈ lw_all := lw_g (lw_at lw_m7 156 rfl) rfl
theorem q1717 : (Jvm.Cond.static ({ cls := "RailingsCountModel", name := "joined", desc := "(IZZ)Z" } : Jvm.MethodName)) ∈ lw_all := lw_g (lw_at lw_m7 157 rfl) rfl
theorem q1718 : (Jvm.Cond.code ({ cls := "RailingsCountModel", name := "joined", desc := "(IZZ)Z" } : Jvm.MethodName) prog_20_method_60_code (3 : Nat) (Option.some Jvm.ClassFile.FieldType.boolean)) ∈ lw_all := lw_g (lw_at lw_m7 158 rfl) rfl
theorem q1719 : (Jvm.Cond.methodLink "RailingsCountModel" (281 : Nat) ({ cls := "RailingsCountModel", name := "held", desc := "(JII)I" } : Jvm.MethodName)) ∈ lw_all := lw_g (lw_at lw_m7 159 rfl) rfl
theorem q1720 : (Jvm.Cond.static ({ cls := "RailingsCountModel", name := "held", desc := "(JII)I" } : Jvm.MethodName)) ∈ lw_all := lw_g (lw_at lw_m7 160 rfl) rfl
theorem q1721 : (Jvm.Cond.code ({ cls := "RailingsCountModel", name := "held", desc := "(JII)I" } : Jvm.MethodName) prog_20_method_4_code (4 : Nat) (Option.some Jvm.ClassFile.FieldType.int)) ∈ lw_all := lw_g (lw_at lw_m7 161 rfl) rfl
theorem q1722 : (Jvm.Cond.methodLink "RailingsCountModel" (307 : Nat) ({ cls := "RailingsCountModel", name := "drawnBy", desc := "(I)I" } : Jvm.MethodName)) ∈ lw_all := lw_g (lw_at lw_m7 162 rfl) rfl
theorem q1723 : (Jvm.Cond.privateMethod ({ cls := "RailingsCountModel", name := "drawnBy", desc := "(I)I" } : Jvm.MethodName)) ∈ lw_tbl := lw_at lw_m7 163 rfl
theorem q1724 : (Jvm.Cond.instanceMethod ({ cls := "RailingsCountModel", name := "drawnBy", desc := "(I)I" } : Jvm.MethodName)) ∈ lw_all := lw_g (lw_at lw_m7 164 rfl) rfl
theorem q1725 : (Jvm.Cond.code ({ cls := "RailingsCountModel", name := "drawnBy", desc := "(I)I" } : Jvm.MethodName) prog_20_method_67_code (3 : Nat) (Option.some Jvm.ClassFile.FieldType.int)) ∈ lw_all := lw_g (lw_at lw_m7 165 rfl) rfl
theorem q1726 : (Jvm.Cond.methodLink "RailingsCountModel" (291 : Nat) ({ cls := "RailingsCountModel", name := "anew", desc := "()V" } : Jvm.MethodName)) ∈ lw_all := lw_g (lw_at lw_m7 166 rfl) rfl
theorem q1727 : (Jvm.Cond.privateMethod ({ cls := "RailingsCountModel", name := "anew", desc := "()V" } : Jvm.MethodName)) ∈ lw_tbl := lw_at lw_m7 167 rfl
theorem q1728 : (Jvm.Cond.instanceMethod ({ cls := "RailingsCountModel", name := "anew", desc := "()V" } : Jvm.MethodName)) ∈ lw_all := lw_g (lw_at lw_m7 168 rfl) rfl
theorem q1729 : (Jvm.Cond.code ({ cls := "RailingsCountModel", name := "anew", desc := "()V" } : Jvm.MethodName) prog_20_method_68_code (1 : Nat) (Option.none : Option Jvm.ClassFile.FieldType)) ∈ lw_all := lw_g (lw_at lw_m7 169 rfl) rfl
theorem q1730 : (Jvm.Cond.constantLong "RailingsCountModel" (294 : Nat) (503 : Int64)) ∈ lw_all := lw_g (lw_at lw_m7 170 rfl) rfl
theorem q1731 : (Jvm.Cond.constantLong "RailingsCountModel" (296 : Nat) (389 : Int64)) ∈ lw_all := lw_g (lw_at lw_m7 171 rfl) rfl
theorem q1732 : (Jvm.Cond.constantLong "RailingsCountModel" (298 : Nat) (30691 : Int64)) ∈ lw_all := lw_g (lw_at lw_m7 172 rfl) rfl
theorem q1733 : (Jvm.Cond.methodLink "RailingsCountModel" (313 : Nat) ({ cls := "RailingsCountModel", name := "write", desc := "(II)V" } : Jvm.MethodName)) ∈ lw_all := lw_g (lw_at lw_m7 173 rfl) rfl
theorem q1734 : (Jvm.Cond.privateMethod ({ cls := "RailingsCountModel", name := "write", desc := "(II)V" } : Jvm.MethodName)) ∈ lw_tbl := lw_at lw_m7 174 rfl
theorem q1735 : (Jvm.Cond.instanceMethod ({ cls := "RailingsCountModel", name := "write", desc := "(II)V" } : Jvm.MethodName)) ∈ lw_all := lw_g (lw_at lw_m7 175 rfl) rfl
theorem q1736 : (Jvm.Cond.code ({ cls := "RailingsCountModel", name := "write", desc := "(II)V" } : Jvm.MethodName) prog_20_method_66_code (4 : Nat) (Option.none : Option Jvm.ClassFile.FieldType)) ∈ lw_all := lw_g (lw_at lw_m7 176 rfl) rfl
theorem q1738 : (Jvm.Cond.instanceMethod ({ cls := "RailingsCountModel", name := "cut", desc := "(I)Z" } : Jvm.MethodName)) ∈ lw_all := lw_g (lw_at lw_m7 178 rfl) rfl
theorem q1739 : (Jvm.Cond.selects "RailingsCountModel" ({ cls := "RailingsCountModel", name := "cut", desc := "(I)Z" } : Jvm.MethodName) ({ cls := "RailingsCountModel", name := "cut", desc := "(I)Z" } : Jvm.MethodName)) ∈ lw_all := lw_g (lw_at lw_m7 179 rfl) rfl
theorem q1740 : (Jvm.Cond.code ({ cls := "RailingsCountModel", name := "cut", desc := "(I)Z" } : Jvm.MethodName) prog_20_method_75_code (2 : Nat) (Option.some Jvm.ClassFile.FieldType.boolean)) ∈ lw_all := lw_g (lw_at lw_m7 180 rfl) rfl
theorem q1742 : (Jvm.Cond.instanceMethod ({ cls := "RailingsCountModel", name := "add", desc := "(I)Z" } : Jvm.MethodName)) ∈ lw_all := lw_g (lw_at lw_m7 182 rfl) rfl
theorem q1743 : (Jvm.Cond.selects "RailingsCountModel" ({ cls := "RailingsCountModel", name := "add", desc := "(I)Z" } : Jvm.MethodName) ({ cls := "RailingsCountModel", name := "add", desc := "(I)Z" } : Jvm.MethodName)) ∈ lw_all := lw_g (lw_at lw_m7 183 rfl) rfl
theorem q1744 : (Jvm.Cond.code ({ cls := "RailingsCountModel", name := "add", desc := "(I)Z" } : Jvm.MethodName) prog_20_method_77_code (2 : Nat) (Option.some Jvm.ClassFile.FieldType.boolean)) ∈ lw_all := lw_g (lw_at lw_m7 184 rfl) rfl
theorem q1745 : (Jvm.Cond.methodLink "RailingsCountModel" (331 : Nat) ({ cls := "RailingsCountModel", name := "addNow", desc := "(I)V" } : Jvm.MethodName)) ∈ lw_all := lw_g (lw_at lw_m7 185 rfl) rfl
theorem q1746 : (Jvm.Cond.privateMethod ({ cls := "RailingsCountModel", name := "addNow", desc := "(I)V" } : Jvm.MethodName)) ∈ lw_tbl := lw_at lw_m7 186 rfl
theorem q1747 : (Jvm.Cond.instanceMethod ({ cls := "RailingsCountModel", name := "addNow", desc := "(I)V" } : Jvm.MethodName)) ∈ lw_all := lw_g (lw_at lw_m7 187 rfl) rfl
theorem q1748 : (Jvm.Cond.code ({ cls := "RailingsCountModel", name := "addNow", desc := "(I)V" } : Jvm.MethodName) prog_20_method_76_code (2 : Nat) (Option.none : Option Jvm.ClassFile.FieldType)) ∈ lw_all := lw_g (lw_at lw_m7 188 rfl) rfl
theorem q1750 : (Jvm.Cond.instanceMethod ({ cls := "RailingsCountModel", name := "year", desc := "(I)I" } : Jvm.MethodName)) ∈ lw_all := lw_g (lw_at lw_m7 190 rfl) rfl
theorem q1751 : (Jvm.Cond.selects "RailingsCountModel" ({ cls := "RailingsCountModel", name := "year", desc := "(I)I" } : Jvm.MethodName) ({ cls := "RailingsCountModel", name := "year", desc := "(I)I" } : Jvm.MethodName)) ∈ lw_all := lw_g (lw_at lw_m7 191 rfl) rfl
theorem q1752 : (Jvm.Cond.code ({ cls := "RailingsCountModel", name := "year", desc := "(I)I" } : Jvm.MethodName) prog_20_method_79_code (2 : Nat) (Option.some Jvm.ClassFile.FieldType.int)) ∈ lw_all := lw_g (lw_at lw_m7 192 rfl) rfl
theorem q1753 : (Jvm.Cond.methodLink "RailingsCountModel" (337 : Nat) ({ cls := "RailingsCountModel", name := "arePassed", desc := "(I)Z" } : Jvm.MethodName)) ∈ lw_all := lw_g (lw_at lw_m7 193 rfl) rfl
theorem q1754 : (Jvm.Cond.privateMethod ({ cls := "RailingsCountModel", name := "arePassed", desc := "(I)Z" } : Jvm.MethodName)) ∈ lw_tbl := lw_at lw_m7 194 rfl
theorem q1755 : (Jvm.Cond.instanceMethod ({ cls := "RailingsCountModel", name := "arePassed", desc := "(I)Z" } : Jvm.MethodName)) ∈ lw_all := lw_g (lw_at lw_m7 195 rfl) rfl
theorem q1756 : (Jvm.Cond.code ({ cls := "RailingsCountModel", name := "arePassed", desc := "(I)Z" } : Jvm.MethodName) prog_20_method_78_code (3 : Nat) (Option.some Jvm.ClassFile.FieldType.boolean)) ∈ lw_all := lw_g (lw_at lw_m7 196 rfl) rfl
theorem q1757 : (Jvm.Cond.methodLink "RailingsCountModel" (334 : Nat) ({ cls := "RailingsCountModel", name := "pass", desc := "()V" } : Jvm.MethodName)) ∈ lw_all := lw_g (lw_at lw_m7 197 rfl) rfl
theorem q1758 : (Jvm.Cond.privateMethod ({ cls := "RailingsCountModel", name := "pass", desc := "()V" } : Jvm.MethodName)) ∈ lw_tbl := lw_at lw_m7 198 rfl
theorem q1759 : (Jvm.Cond.instanceMethod ({ cls := "RailingsCountModel", name := "pass", desc := "()V" } : Jvm.MethodName)) ∈ lw_all := lw_g (lw_at lw_m7 199 rfl) rfl
theorem q1760 : (Jvm.Cond.code ({ cls := "RailingsCountModel", name := "pass", desc := "()V" } : Jvm.MethodName) prog_20_method_70_code (2 : Nat) (Option.none : Option Jvm.ClassFile.FieldType)) ∈ lw_all := lw_g (lw_at lw_m7 200 rfl) rfl
theorem q1761 : (Jvm.Cond.methodLink "RailingsCountModel" (319 : Nat) ({ cls := "RailingsCountModel", name := "paintsOf", desc := "(I)I" } : Jvm.MethodName)) ∈ lw_all := lw_g (lw_at lw_m7 201 rfl) rfl
theorem q1762 : (Jvm.Cond.privateMethod ({ cls := "RailingsCountModel", name := "paintsOf", desc := "(I)I" } : Jvm.MethodName)) ∈ lw_tbl := lw_at lw_m7 202 rfl
theorem q1763 : (Jvm.Cond.instanceMethod ({ cls := "RailingsCountModel", name := "paintsOf", desc := "(I)I" } : Jvm.MethodName)) ∈ lw_all := lw_g (lw_at lw_m7 203 rfl) rfl
theorem q1764 : (Jvm.Cond.code ({ cls := "RailingsCountModel", name := "paintsOf", desc := "(I)I" } : Jvm.MethodName) prog_20_method_65_code (2 : Nat) (Option.some Jvm.ClassFile.FieldType.int)) ∈ lw_all := lw_g (lw_at lw_m7 204 rfl) rfl
theorem q1766 : (Jvm.Cond.instanceMethod ({ cls := "RailingsCountModel", name := "played", desc := "(I)I" } : Jvm.MethodName)) ∈ lw_all := lw_g (lw_at lw_m7 206 rfl) rfl
theorem q1767 : (Jvm.Cond.selects "RailingsCountModel" ({ cls := "RailingsCountModel", name := "played", desc := "(I)I" } : Jvm.MethodName) ({ cls := "RailingsCountModel", name := "played", desc := "(I)I" } : Jvm.MethodName)) ∈ lw_all := lw_g (lw_at lw_m7 207 rfl) rfl
theorem q1768 : (Jvm.Cond.code ({ cls := "RailingsCountModel", name := "played", desc := "(I)I" } : Jvm.MethodName) prog_20_method_81_code (3 : Nat) (Option.some Jvm.ClassFile.FieldType.int)) ∈ lw_all := lw_g (lw_at lw_m7 208 rfl) rfl
theorem q1769 : (Jvm.Cond.methodLink "RailingsCountModel" (358 : Nat) ({ cls := "RailingsCountModel", name := "isPlayed", desc := "(I)Z" } : Jvm.MethodName)) ∈ lw_all := lw_g (lw_at lw_m7 209 rfl) rfl
theorem q1770 : (Jvm.Cond.privateMethod ({ cls := "RailingsCountModel", name := "isPlayed", desc := "(I)Z" } : Jvm.MethodName)) ∈ lw_tbl := lw_at lw_m7 210 rfl
theorem q1771 : (Jvm.Cond.instanceMethod ({ cls := "RailingsCountModel", name := "isPlayed", desc := "(I)Z" } : Jvm.MethodName)) ∈ lw_all := lw_g (lw_at lw_m7 211 rfl) rfl
theorem q1772 : (Jvm.Cond.code ({ cls := "RailingsCountModel", name := "isPlayed", desc := "(I)Z" } : Jvm.MethodName) prog_20_method_80_code (4 : Nat) (Option.some Jvm.ClassFile.FieldType.boolean)) ∈ lw_all := lw_g (lw_at lw_m7 212 rfl) rfl
theorem q1773 : (Jvm.Cond.methodLink "RailingsCountModel" (340 : Nat) ({ cls := "RailingsCountModel", name := "bar", desc := "(II)Z" } : Jvm.MethodName)) ∈ lw_all := lw_g (lw_at lw_m7 213 rfl) rfl
theorem q1774 : (Jvm.Cond.methodLink "RailingsCountModel" (343 : Nat) ({ cls := "RailingsCountModel", name := "paint", desc := "(II)Z" } : Jvm.MethodName)) ∈ lw_all := lw_g (lw_at lw_m7 214 rfl) rfl
theorem q1775 : (Jvm.Cond.methodLink "RailingsCountModel" (346 : Nat) ({ cls := "RailingsCountModel", name := "child", desc := "(II)I" } : Jvm.MethodName)) ∈ lw_all := lw_g (lw_at lw_m7 215 rfl) rfl
theorem q1776 : (Jvm.Cond.methodLink "RailingsCountModel" (349 : Nat) ({ cls := "RailingsCountModel", name := "run", desc := "(II)I" } : Jvm.MethodName)) ∈ lw_all := lw_g (lw_at lw_m7 216 rfl) rfl
theorem q1777 : (Jvm.Cond.methodLink "RailingsCountModel" (352 : Nat) ({ cls := "RailingsCountModel", name := "cut", desc := "(I)Z" } : Jvm.MethodName)) ∈ lw_all := lw_g (lw_at lw_m7 217 rfl) rfl
theorem q1778 : (Jvm.Cond.methodLink "RailingsCountModel" (355 : Nat) ({ cls := "RailingsCountModel", name := "add", desc := "(I)Z" } : Jvm.MethodName)) ∈ lw_all := lw_g (lw_at lw_m7 218 rfl) rfl
theorem q1780 : (Jvm.Cond.instanceMethod ({ cls := "RailingsCountModel", name := "ages", desc := "(II)I" } : Jvm.MethodName)) ∈ lw_all := lw_g (lw_at lw_m7 220 rfl) rfl
theorem q1781 : (Jvm.Cond.selects "RailingsCountModel" ({ cls := "RailingsCountModel", name := "ages", desc := "(II)I" } : Jvm.MethodName) ({ cls := "RailingsCountModel", name := "ages", desc := "(II)I" } : Jvm.MethodName)) ∈ lw_all := lw_g (lw_at lw_m7 221 rfl) rfl
theorem q1782 : (Jvm.Cond.code ({ cls := "RailingsCountModel", name := "ages", desc := "(II)I" } : Jvm.MethodName) prog_20_method_83_code (5 : Nat) (Option.some Jvm.ClassFile.FieldType.int)) ∈ lw_all := lw_g (lw_at lw_m7 222 rfl) rfl
theorem q1783 : (Jvm.Cond.methodLink "RailingsCountModel" (361 : Nat) ({ cls := "RailingsCountModel", name := "happens", desc := "(I)V" } : Jvm.MethodName)) ∈ lw_all := lw_g (lw_at lw_m7 223 rfl) rfl
theorem q1784 : (Jvm.Cond.privateMethod ({ cls := "RailingsCountModel", name := "happens", desc := "(I)V" } : Jvm.MethodName)) ∈ lw_tbl := lw_at lw_m7 224 rfl
theorem q1785 : (Jvm.Cond.instanceMethod ({ cls := "RailingsCountModel", name := "happens", desc := "(I)V" } : Jvm.MethodName)) ∈ lw_all := lw_g (lw_at lw_m7 225 rfl) rfl
theorem q1786 : (Jvm.Cond.code ({ cls := "RailingsCountModel", name := "happens", desc := "(I)V" } : Jvm.MethodName) prog_20_method_82_code (3 : Nat) (Option.none : Option Jvm.ClassFile.FieldType)) ∈ lw_all := lw_g (lw_at lw_m7 226 rfl) rfl
theorem q1788 : (Jvm.Cond.instanceMethod ({ cls := "RailingsCountModel", name := "of", desc := "(II)I" } : Jvm.MethodName)) ∈ lw_all := lw_g (lw_at lw_m7 228 rfl) rfl
theorem q1789 : (Jvm.Cond.selects "RailingsCountModel" ({ cls := "RailingsCountModel", name := "of", desc := "(II)I" } : Jvm.MethodName) ({ cls := "RailingsCountModel", name := "of", desc := "(II)I" } : Jvm.MethodName)) ∈ lw_all := lw_g (lw_at lw_m7 229 rfl) rfl
theorem q1790 : (Jvm.Cond.code ({ cls := "RailingsCountModel", name := "of", desc := "(II)I" } : Jvm.MethodName) prog_20_method_84_code (3 : Nat) (Option.some Jvm.ClassFile.FieldType.int)) ∈ lw_all := lw_g (lw_at lw_m7 230 rfl) rfl
theorem q1792 : (Jvm.Cond.instanceMethod ({ cls := "RailingsCountModel", name := "ofBar", desc := "(II)I" } : Jvm.MethodName)) ∈ lw_all := lw_g (lw_at lw_m7 232 rfl) rfl
theorem q1793 : (Jvm.Cond.selects "RailingsCountModel" ({ cls := "RailingsCountModel", name := "ofBar", desc := "(II)I" } : Jvm.MethodName) ({ cls := "RailingsCountModel", name := "ofBar", desc := "(II)I" } : Jvm.MethodName)) ∈ lw_all := lw_g (lw_at lw_m7 233 rfl) rfl
theorem q1794 : (Jvm.Cond.code ({ cls := "RailingsCountModel", name := "ofBar", desc := "(II)I" } : Jvm.MethodName) prog_20_method_85_code (3 : Nat) (Option.some Jvm.ClassFile.FieldType.int)) ∈ lw_all := lw_g (lw_at lw_m7 234 rfl) rfl
theorem q1796 : (Jvm.Cond.instanceMethod ({ cls := "RailingsCountModel", name := "catches", desc := "(III)I" } : Jvm.MethodName)) ∈ lw_all := lw_g (lw_at lw_m7 236 rfl) rfl
theorem q1797 : (Jvm.Cond.selects "RailingsCountModel" ({ cls := "RailingsCountModel", name := "catches", desc := "(III)I" } : Jvm.MethodName) ({ cls := "RailingsCountModel", name := "catches", desc := "(III)I" } : Jvm.MethodName)) ∈ lw_all := lw_g (lw_at lw_m7 237 rfl) rfl
theorem q1798 : (Jvm.Cond.code ({ cls := "RailingsCountModel", name := "catches", desc := "(III)I" } : Jvm.MethodName) prog_20_method_86_code (4 : Nat) (Option.some Jvm.ClassFile.FieldType.int)) ∈ lw_all := lw_g (lw_at lw_m7 238 rfl) rfl
theorem q1800 : (Jvm.Cond.instanceMethod ({ cls := "RailingsCountModel", name := "is", desc := "(I)I" } : Jvm.MethodName)) ∈ lw_all := lw_g (lw_at lw_m8 0 rfl) rfl
theorem q1801 : (Jvm.Cond.selects "RailingsCountModel" ({ cls := "RailingsCountModel", name := "is", desc := "(I)I" } : Jvm.MethodName) ({ cls := "RailingsCountModel", name := "is", desc := "(I)I" } : Jvm.MethodName)) ∈ lw_all := lw_g (lw_at lw_m8 1 rfl) rfl
theorem q1802 : (Jvm.Cond.code ({ cls := "RailingsCountModel", name := "is", desc := "(I)I" } : Jvm.MethodName) prog_20_method_89_code (2 : Nat) (Option.some Jvm.ClassFile.FieldType.int)) ∈ lw_all := lw_g (lw_at lw_m8 2 rfl) rfl
theorem q1803 : (Jvm.Cond.methodLink "RailingsCountModel" (364 : Nat) ({ cls := "RailingsCountModel", name := "barsFrom", desc := "(II)I" } : Jvm.MethodName)) ∈ lw_all := lw_g (lw_at lw_m8 3 rfl) rfl
theorem q1804 : (Jvm.Cond.privateMethod ({ cls := "RailingsCountModel", name := "barsFrom", desc := "(II)I" } : Jvm.MethodName)) ∈ lw_tbl := lw_at lw_m8 4 rfl
theorem q1805 : (Jvm.Cond.instanceMethod ({ cls := "RailingsCountModel", name := "barsFrom", desc := "(II)I" } : Jvm.MethodName)) ∈ lw_all := lw_g (lw_at lw_m8 5 rfl) rfl
theorem q1806 : (Jvm.Cond.code ({ cls := "RailingsCountModel", name := "barsFrom", desc := "(II)I" } : Jvm.MethodName) prog_20_method_87_code (5 : Nat) (Option.some Jvm.ClassFile.FieldType.int)) ∈ lw_all := lw_g (lw_at lw_m8 6 rfl) rfl
theorem q1807 : (Jvm.Cond.methodLink "RailingsCountModel" (367 : Nat) ({ cls := "RailingsCountModel", name := "numberless", desc := "()I" } : Jvm.MethodName)) ∈ lw_all := lw_g (lw_at lw_m8 7 rfl) rfl
theorem q1808 : (Jvm.Cond.privateMethod ({ cls := "RailingsCountModel", name := "numberless", desc := "()I" } : Jvm.MethodName)) ∈ lw_tbl := lw_at lw_m8 8 rfl
theorem q1809 : (Jvm.Cond.instanceMethod ({ cls := "RailingsCountModel", name := "numberless", desc := "()I" } : Jvm.MethodName)) ∈ lw_all := lw_g (lw_at lw_m8 9 rfl) rfl
theorem q1810 : (Jvm.Cond.code ({ cls := "RailingsCountModel", name := "numberless", desc := "()I" } : Jvm.MethodName) prog_20_method_88_code (3 : Nat) (Option.some Jvm.ClassFile.FieldType.int)) ∈ lw_all := lw_g (lw_at lw_m8 10 rfl) rfl
theorem q1812 : (Jvm.Cond.instanceMethod ({ cls := "RailingsCountModel", name := "book", desc := "(II)I" } : Jvm.MethodName)) ∈ lw_all := lw_g (lw_at lw_m8 12 rfl) rfl
theorem q1813 : (Jvm.Cond.selects "RailingsCountModel" ({ cls := "RailingsCountModel", name := "book", desc := "(II)I" } : Jvm.MethodName) ({ cls := "RailingsCountModel", name := "book", desc := "(II)I" } : Jvm.MethodName)) ∈ lw_all := lw_g (lw_at lw_m8 13 rfl) rfl
theorem q1814 : (Jvm.Cond.code ({ cls := "RailingsCountModel", name := "book", desc := "(II)I" } : Jvm.MethodName) prog_20_method_91_code (3 : Nat) (Option.some Jvm.ClassFile.FieldType.int)) ∈ lw_all := lw_g (lw_at lw_m8 14 rfl) rfl
theorem q1815 : (Jvm.Cond.methodLink "RailingsCountModel" (370 : Nat) ({ cls := "RailingsCountModel", name := "entry", desc := "(II)I" } : Jvm.MethodName)) ∈ lw_all := lw_g (lw_at lw_m8 15 rfl) rfl
theorem q1816 : (Jvm.Cond.privateMethod ({ cls := "RailingsCountModel", name := "entry", desc := "(II)I" } : Jvm.MethodName)) ∈ lw_tbl := lw_at lw_m8 16 rfl
theorem q1817 : (Jvm.Cond.instanceMethod ({ cls := "RailingsCountModel", name := "entry", desc := "(II)I" } : Jvm.MethodName)) ∈ lw_all := lw_g (lw_at lw_m8 17 rfl) rfl
theorem q1818 : (Jvm.Cond.code ({ cls := "RailingsCountModel", name := "entry", desc := "(II)I" } : Jvm.MethodName) prog_20_method_90_code (4 : Nat) (Option.some Jvm.ClassFile.FieldType.int)) ∈ lw_all := lw_g (lw_at lw_m8 18 rfl) rfl
theorem q1820 : (Jvm.Cond.instanceMethod ({ cls := "RailingsCountModel", name := "ledger", desc := "(I)I" } : Jvm.MethodName)) ∈ lw_all := lw_g (lw_at lw_m8 20 rfl) rfl
theorem q1821 : (Jvm.Cond.selects "RailingsCountModel" ({ cls := "RailingsCountModel", name := "ledger", desc := "(I)I" } : Jvm.MethodName) ({ cls := "RailingsCountModel", name := "ledger", desc := "(I)I" } : Jvm.MethodName)) ∈ lw_all := lw_g (lw_at lw_m8 21 rfl) rfl
theorem q1822 : (Jvm.Cond.code ({ cls := "RailingsCountModel", name := "ledger", desc := "(I)I" } : Jvm.MethodName) prog_20_method_92_code (4 : Nat) (Option.some Jvm.ClassFile.FieldType.int)) ∈ lw_all := lw_g (lw_at lw_m8 22 rfl) rfl
theorem q1824 : (Jvm.Cond.instanceMethod ({ cls := "RailingsCountModel", name := "greatest", desc := "()I" } : Jvm.MethodName)) ∈ lw_all := lw_g (lw_at lw_m8 24 rfl) rfl
theorem q1825 : (Jvm.Cond.selects "RailingsCountModel" ({ cls := "RailingsCountModel", name := "greatest", desc := "()I" } : Jvm.MethodName) ({ cls := "RailingsCountModel", name := "greatest", desc := "()I" } : Jvm.MethodName)) ∈ lw_all := lw_g (lw_at lw_m8 25 rfl) rfl
theorem q1826 : (Jvm.Cond.code ({ cls := "RailingsCountModel", name := "greatest", desc := "()I" } : Jvm.MethodName) prog_20_method_93_code (3 : Nat) (Option.some Jvm.ClassFile.FieldType.int)) ∈ lw_all := lw_g (lw_at lw_m8 26 rfl) rfl
theorem q1828 : (Jvm.Cond.instanceMethod ({ cls := "RailingsCountModel", name := "twins", desc := "()I" } : Jvm.MethodName)) ∈ lw_all := lw_g (lw_at lw_m8 28 rfl) rfl
theorem q1829 : (Jvm.Cond.selects "RailingsCountModel" ({ cls := "RailingsCountModel", name := "twins", desc := "()I" } : Jvm.MethodName) ({ cls := "RailingsCountModel", name := "twins", desc := "()I" } : Jvm.MethodName)) ∈ lw_all := lw_g (lw_at lw_m8 29 rfl) rfl
theorem q1830 : (Jvm.Cond.code ({ cls := "RailingsCountModel", name := "twins", desc := "()I" } : Jvm.MethodName) prog_20_method_94_code (4 : Nat) (Option.some Jvm.ClassFile.FieldType.int)) ∈ lw_all := lw_g (lw_at lw_m8 30 rfl) rfl
theorem q1832 : (Jvm.Cond.instanceMethod ({ cls := "RailingsCountModel", name := "odd", desc := "()I" } : Jvm.MethodName)) ∈ lw_all := lw_g (lw_at lw_m8 32 rfl) rfl
theorem q1833 : (Jvm.Cond.selects "RailingsCountModel" ({ cls := "RailingsCountModel", name := "odd", desc := "()I" } : Jvm.MethodName) ({ cls := "RailingsCountModel", name := "odd", desc := "()I" } : Jvm.MethodName)) ∈ lw_all := lw_g (lw_at lw_m8 33 rfl) rfl
theorem q1834 : (Jvm.Cond.code ({ cls := "RailingsCountModel", name := "odd", desc := "()I" } : Jvm.MethodName) prog_20_method_95_code (3 : Nat) (Option.some Jvm.ClassFile.FieldType.int)) ∈ lw_all := lw_g (lw_at lw_m8 34 rfl) rfl
theorem q1836 : (Jvm.Cond.instanceMethod ({ cls := "RailingsCountModel", name := "thickest", desc := "()I" } : Jvm.MethodName)) ∈ lw_all := lw_g (lw_at lw_m8 36 rfl) rfl
theorem q1837 : (Jvm.Cond.selects "RailingsCountModel" ({ cls := "RailingsCountModel", name := "thickest", desc := "()I" } : Jvm.MethodName) ({ cls := "RailingsCountModel", name := "thickest", desc := "()I" } : Jvm.MethodName)) ∈ lw_all := lw_g (lw_at lw_m8 37 rfl) rfl
theorem q1838 : (Jvm.Cond.code ({ cls := "RailingsCountModel", name := "thickest", desc := "()I" } : Jvm.MethodName) prog_20_method_96_code (3 : Nat) (Option.some Jvm.ClassFile.FieldType.int)) ∈ lw_all := lw_g (lw_at lw_m8 38 rfl) rfl
theorem q1840 : (Jvm.Cond.instanceMethod ({ cls := "RailingsCountModel", name := "foretold", desc := "(II)I" } : Jvm.MethodName)) ∈ lw_all := lw_g (lw_at lw_m8 40 rfl) rfl
theorem q1841 : (Jvm.Cond.selects "RailingsCountModel" ({ cls := "RailingsCountModel", name := "foretold", desc := "(II)I" } : Jvm.MethodName) ({ cls := "RailingsCountModel", name := "foretold", desc := "(II)I" } : Jvm.MethodName)) ∈ lw_all := lw_g (lw_at lw_m8 41 rfl) rfl
theorem q1842 : (Jvm.Cond.code ({ cls := "RailingsCountModel", name := "foretold", desc := "(II)I" } : Jvm.MethodName) prog_20_method_97_code (5 : Nat) (Option.some Jvm.ClassFile.FieldType.int)) ∈ lw_all := lw_g (lw_at lw_m8 42 rfl) rfl
theorem q1844 : (Jvm.Cond.instanceMethod ({ cls := "RailingsCountModel", name := "likely", desc := "(IIIZ)J" } : Jvm.MethodName)) ∈ lw_all := lw_g (lw_at lw_m8 44 rfl) rfl
theorem q1845 : (Jvm.Cond.selects "RailingsCountModel" ({ cls := "RailingsCountModel", name := "likely", desc := "(IIIZ)J" } : Jvm.MethodName) ({ cls := "RailingsCountModel", name := "likely", desc := "(IIIZ)J" } : Jvm.MethodName)) ∈ lw_all := lw_g (lw_at lw_m8 45 rfl) rfl
theorem q1846 : (Jvm.Cond.code ({ cls := "RailingsCountModel", name := "likely", desc := "(IIIZ)J" } : Jvm.MethodName) prog_20_method_105_code (5 : Nat) (Option.some Jvm.ClassFile.FieldType.long)) ∈ lw_all := lw_g (lw_at lw_m8 46 rfl) rfl
theorem q1847 : (Jvm.Cond.methodLink "RailingsCountModel" (387 : Nat) ({ cls := "RailingsCountModel", name := "areRunning", desc := "(II)Z" } : Jvm.MethodName)) ∈ lw_all := lw_g (lw_at lw_m8 47 rfl) rfl
theorem q1848 : (Jvm.Cond.privateMethod ({ cls := "RailingsCountModel", name := "areRunning", desc := "(II)Z" } : Jvm.MethodName)) ∈ lw_tbl := lw_at lw_m8 48 rfl
theorem q1849 : (Jvm.Cond.instanceMethod ({ cls := "RailingsCountModel", name := "areRunning", desc := "(II)Z" } : Jvm.MethodName)) ∈ lw_all := lw_g (lw_at lw_m8 49 rfl) rfl
theorem q1850 : (Jvm.Cond.code ({ cls := "RailingsCountModel", name := "areRunning", desc := "(II)Z" } : Jvm.MethodName) prog_20_method_104_code (3 : Nat) (Option.some Jvm.ClassFile.FieldType.boolean)) ∈ lw_all := lw_g (lw_at lw_m8 50 rfl) rfl
theorem q1851 : (Jvm.Cond.methodLink "RailingsCountModel" (390 : Nat) ({ cls := "RailingsCountModel", name := "weightOf", desc := "(III)J" } : Jvm.MethodName)) ∈ lw_all := lw_g (lw_at lw_m8 51 rfl) rfl
theorem q1852 : (Jvm.Cond.privateMethod ({ cls := "RailingsCountModel", name := "weightOf", desc := "(III)J" } : Jvm.MethodName)) ∈ lw_tbl := lw_at lw_m8 52 rfl
theorem q1853 : (Jvm.Cond.instanceMethod ({ cls := "RailingsCountModel", name := "weightOf", desc := "(III)J" } : Jvm.MethodName)) ∈ lw_all := lw_g (lw_at lw_m8 53 rfl) rfl
theorem q1854 : (Jvm.Cond.code ({ cls := "RailingsCountModel", name := "weightOf", desc := "(III)J" } : Jvm.MethodName) prog_20_method_100_code (7 : Nat) (Option.some Jvm.ClassFile.FieldType.long)) ∈ lw_all := lw_g (lw_at lw_m8 54 rfl) rfl
theorem q1855 : (Jvm.Cond.methodLink "RailingsCountModel" (376 : Nat) ({ cls := "RailingsCountModel", name := "layBars", desc := "(I)V" } : Jvm.MethodName)) ∈ lw_all := lw_g (lw_at lw_m8 55 rfl) rfl
theorem q1856 : (Jvm.Cond.privateMethod ({ cls := "RailingsCountModel", name := "layBars", desc := "(I)V" } : Jvm.MethodName)) ∈ lw_tbl := lw_at lw_m8 56 rfl
theorem q1857 : (Jvm.Cond.instanceMethod ({ cls := "RailingsCountModel", name := "layBars", desc := "(I)V" } : Jvm.MethodName)) ∈ lw_all := lw_g (lw_at lw_m8 57 rfl) rfl
theorem q1858 : (Jvm.Cond.code ({ cls := "RailingsCountModel", name := "layBars", desc := "(I)V" } : Jvm.MethodName) prog_20_method_98_code (4 : Nat) (Option.none : Option Jvm.ClassFile.FieldType)) ∈ lw_all := lw_g (lw_at lw_m8 58 rfl) rfl
theorem q1859 : (Jvm.Cond.methodLink "RailingsCountModel" (379 : Nat) ({ cls := "RailingsCountModel", name := "caughtAt", desc := "(II)I" } : Jvm.MethodName)) ∈ lw_all := lw_g (lw_at lw_m8 59 rfl) rfl
theorem q1860 : (Jvm.Cond.privateMethod ({ cls := "RailingsCountModel", name := "caughtAt", desc := "(II)I" } : Jvm.MethodName)) ∈ lw_tbl := lw_at lw_m8 60 rfl
theorem q1861 : (Jvm.Cond.instanceMethod ({ cls := "RailingsCountModel", name := "caughtAt", desc := "(II)I" } : Jvm.MethodName)) ∈ lw_all := lw_g (lw_at lw_m8 61 rfl) rfl
theorem q1862 : (Jvm.Cond.code ({ cls := "RailingsCountModel", name := "caughtAt", desc := "(II)I" } : Jvm.MethodName) prog_20_method_99_code (3 : Nat) (Option.some Jvm.ClassFile.FieldType.int)) ∈ lw_all := lw_g (lw_at lw_m8 62 rfl) rfl
theorem q1863 : (Jvm.Cond.methodLink "RailingsCountModel" (393 : Nat) ({ cls := "RailingsCountModel", name := "tens", desc := "(I)J" } : Jvm.MethodName)) ∈ lw_all := lw_g (lw_at lw_m8 63 rfl) rfl
theorem q1864 : (Jvm.Cond.static ({ cls := "RailingsCountModel", name := "tens", desc := "(I)J" } : Jvm.MethodName)) ∈ lw_all := lw_g (lw_at lw_m8 64 rfl) rfl
theorem q1865 : (Jvm.Cond.code ({ cls := "RailingsCountModel", name := "tens", desc := "(I)J" } : Jvm.MethodName) prog_20_method_101_code (4 : Nat) (Option.some Jvm.ClassFile.FieldType.long)) ∈ lw_all := lw_g (lw_at lw_m8 65 rfl) rfl
theorem q1866 : (Jvm.Cond.constantLong "RailingsCountModel" (382 : Nat) (10 : Int64)) ∈ lw_all := lw_g (lw_at lw_m8 66 rfl) rfl
theorem q1867 : (Jvm.Cond.methodLink "RailingsCountModel" (397 : Nat) ({ cls := "RailingsCountModel", name := "part", desc := "(JJZ)J" } : Jvm.MethodName)) ∈ lw_all := lw_g (lw_at lw_m8 67 rfl) rfl
theorem q1868 : (Jvm.Cond.static ({ cls := "RailingsCountModel", name := "part", desc := "(JJZ)J" } : Jvm.MethodName)) ∈ lw_all := lw_g (lw_at lw_m8 68 rfl) rfl
theorem q1869 : (Jvm.Cond.code ({ cls := "RailingsCountModel", name := "part", desc := "(JJZ)J" } : Jvm.MethodName) prog_20_method_103_code (5 : Nat) (Option.some Jvm.ClassFile.FieldType.long)) ∈ lw_all := lw_g (lw_at lw_m8 69 rfl) rfl
theorem q1870 : (Jvm.Cond.methodLink "RailingsCountModel" (384 : Nat) ({ cls := "RailingsCountModel", name := "divisor", desc := "(JJ)J" } : Jvm.MethodName)) ∈ lw_all := lw_g (lw_at lw_m8 70 rfl) rfl
theorem q1871 : (Jvm.Cond.static ({ cls := "RailingsCountModel", name := "divisor", desc := "(JJ)J" } : Jvm.MethodName)) ∈ lw_all := lw_g (lw_at lw_m8 71 rfl) rfl
theorem q1872 : (Jvm.Cond.code ({ cls := "RailingsCountModel", name := "divisor", desc := "(JJ)J" } : Jvm.MethodName) prog_20_method_102_code (10 : Nat) (Option.some Jvm.ClassFile.FieldType.long)) ∈ lw_all := lw_g (lw_at lw_m8 72 rfl) rfl
theorem q1873 : (Jvm.Cond.constantLong "RailingsCountModel" (401 : Nat) (-1 : Int64)) ∈ lw_all := lw_g (lw_at lw_m8 73 rfl) rfl
theorem q1875 : (Jvm.Cond.instanceMethod ({ cls := "RailingsCountModel", name := "start", desc := "(II)I" } : Jvm.MethodName)) ∈ lw_all := lw_g (lw_at lw_m8 75 rfl) rfl
theorem q1876 : (Jvm.Cond.selects "RailingsCountModel" ({ cls := "RailingsCountModel", name := "start", desc := "(II)I" } : Jvm.MethodName) ({ cls := "RailingsCountModel", name := "start", desc := "(II)I" } : Jvm.MethodName)) ∈ lw_all := lw_g (lw_at lw_m8 76 rfl) rfl
theorem q1877 : (Jvm.Cond.code ({ cls := "RailingsCountModel", name := "start", desc := "(II)I" } : Jvm.MethodName) prog_20_method_106_code (9 : Nat) (Option.some Jvm.ClassFile.FieldType.int)) ∈ lw_all := lw_g (lw_at lw_m8 77 rfl) rfl
theorem q1879 : (Jvm.Cond.instanceMethod ({ cls := "RailingsCountModel", name := "mean", desc := "(IIZ)J" } : Jvm.MethodName)) ∈ lw_all := lw_g (lw_at lw_m8 79 rfl) rfl
theorem q1880 : (Jvm.Cond.selects "RailingsCountModel" ({ cls := "RailingsCountModel", name := "mean", desc := "(IIZ)J" } : Jvm.MethodName) ({ cls := "RailingsCountModel", name := "mean", desc := "(IIZ)J" } : Jvm.MethodName)) ∈ lw_all := lw_g (lw_at lw_m8 80 rfl) rfl
theorem q1881 : (Jvm.Cond.code ({ cls := "RailingsCountModel", name := "mean", desc := "(IIZ)J" } : Jvm.MethodName) prog_20_method_107_code (8 : Nat) (Option.some Jvm.ClassFile.FieldType.long)) ∈ lw_all := lw_g (lw_at lw_m8 81 rfl) rfl
theorem q1883 : (Jvm.Cond.instanceMethod ({ cls := "RailingsCountModel", name := "which", desc := "(III)I" } : Jvm.MethodName)) ∈ lw_all := lw_g (lw_at lw_m8 83 rfl) rfl
theorem q1884 : (Jvm.Cond.selects "RailingsCountModel" ({ cls := "RailingsCountModel", name := "which", desc := "(III)I" } : Jvm.MethodName) ({ cls := "RailingsCountModel", name := "which", desc := "(III)I" } : Jvm.MethodName)) ∈ lw_all := lw_g (lw_at lw_m8 84 rfl) rfl
theorem q1885 : (Jvm.Cond.code ({ cls := "RailingsCountModel", name := "which", desc := "(III)I" } : Jvm.MethodName) prog_20_method_108_code (10 : Nat) (Option.some Jvm.ClassFile.FieldType.int)) ∈ lw_all := lw_g (lw_at lw_m8 85 rfl) rfl
theorem q1887 : (Jvm.Cond.instanceMethod ({ cls := "RailingsCountModel", name := "nth", desc := "(II)I" } : Jvm.MethodName)) ∈ lw_all := lw_g (lw_at lw_m8 87 rfl) rfl
theorem q1888 : (Jvm.Cond.selects "RailingsCountModel" ({ cls := "RailingsCountModel", name := "nth", desc := "(II)I" } : Jvm.MethodName) ({ cls := "RailingsCountModel", name := "nth", desc := "(II)I" } : Jvm.MethodName)) ∈ lw_all := lw_g (lw_at lw_m8 88 rfl) rfl
theorem q1889 : (Jvm.Cond.code ({ cls := "RailingsCountModel", name := "nth", desc := "(II)I" } : Jvm.MethodName) prog_20_method_109_code (3 : Nat) (Option.some Jvm.ClassFile.FieldType.int)) ∈ lw_all := lw_g (lw_at lw_m8 89 rfl) rfl
theorem q1891 : (Jvm.Cond.instanceMethod ({ cls := "RailingsCountModel", name := "value", desc := "(II)Z" } : Jvm.MethodName)) ∈ lw_all := lw_g (lw_at lw_m8 91 rfl) rfl
theorem q1892 : (Jvm.Cond.selects "RailingsCountModel" ({ cls := "RailingsCountModel", name := "value", desc := "(II)Z" } : Jvm.MethodName) ({ cls := "RailingsCountModel", name := "value", desc := "(II)Z" } : Jvm.MethodName)) ∈ lw_all := lw_g (lw_at lw_m8 92 rfl) rfl
theorem q1893 : (Jvm.Cond.code ({ cls := "RailingsCountModel", name := "value", desc := "(II)Z" } : Jvm.MethodName) prog_20_method_110_code (3 : Nat) (Option.some Jvm.ClassFile.FieldType.boolean)) ∈ lw_all := lw_g (lw_at lw_m8 93 rfl) rfl
theorem q1895 : (Jvm.Cond.instanceMethod ({ cls := "RailingsCountModel", name := "worth", desc := "(IIZ)J" } : Jvm.MethodName)) ∈ lw_all := lw_g (lw_at lw_m8 95 rfl) rfl
theorem q1896 : (Jvm.Cond.selects "RailingsCountModel" ({ cls := "RailingsCountModel", name := "worth", desc := "(IIZ)J" } : Jvm.MethodName) ({ cls := "RailingsCountModel", name := "worth", desc := "(IIZ)J" } : Jvm.MethodName)) ∈ lw_all := lw_g (lw_at lw_m8 96 rfl) rfl
theorem q1897 : (Jvm.Cond.code ({ cls := "RailingsCountModel", name := "worth", desc := "(IIZ)J" } : Jvm.MethodName) prog_20_method_112_code (5 : Nat) (Option.some Jvm.ClassFile.FieldType.long)) ∈ lw_all := lw_g (lw_at lw_m8 97 rfl) rfl
theorem q1898 : (Jvm.Cond.methodLink "RailingsCountModel" (403 : Nat) ({ cls := "RailingsCountModel", name := "layWorths", desc := "(II)I" } : Jvm.MethodName)) ∈ lw_all := lw_g (lw_at lw_m8 98 rfl) rfl
theorem q1899 : (Jvm.Cond.privateMethod ({ cls := "RailingsCountModel", name := "layWorths", desc := "(II)I" } : Jvm.MethodName)) ∈ lw_tbl := lw_at lw_m8 99 rfl
theorem q1900 : (Jvm.Cond.instanceMethod ({ cls := "RailingsCountModel", name := "layWorths", desc := "(II)I" } : Jvm.MethodName)) ∈ lw_all := lw_g (lw_at lw_m8 100 rfl) rfl
theorem q1901 : (Jvm.Cond.code ({ cls := "RailingsCountModel", name := "layWorths", desc := "(II)I" } : Jvm.MethodName) prog_20_method_111_code (9 : Nat) (Option.some Jvm.ClassFile.FieldType.int)) ∈ lw_all := lw_g (lw_at lw_m8 101 rfl) rfl
theorem q1903 : (Jvm.Cond.instanceMethod ({ cls := "RailingsCountModel", name := "goesOn", desc := "(III)I" } : Jvm.MethodName)) ∈ lw_all := lw_g (lw_at lw_m8 103 rfl) rfl
theorem q1904 : (Jvm.Cond.selects "RailingsCountModel" ({ cls := "RailingsCountModel", name := "goesOn", desc := "(III)I" } : Jvm.MethodName) ({ cls := "RailingsCountModel", name := "goesOn", desc := "(III)I" } : Jvm.MethodName)) ∈ lw_all := lw_g (lw_at lw_m8 104 rfl) rfl
theorem q1905 : (Jvm.Cond.code ({ cls := "RailingsCountModel", name := "goesOn", desc := "(III)I" } : Jvm.MethodName) prog_20_method_113_code (5 : Nat) (Option.some Jvm.ClassFile.FieldType.int)) ∈ lw_all := lw_g (lw_at lw_m8 105 rfl) rfl
theorem q1907 : (Jvm.Cond.instanceMethod ({ cls := "RailingsCountModel", name := "best", desc := "(I)I" } : Jvm.MethodName)) ∈ lw_all := lw_g (lw_at lw_m8 107 rfl) rfl
theorem q1908 : (Jvm.Cond.selects "RailingsCountModel" ({ cls := "RailingsCountModel", name := "best", desc := "(I)I" } : Jvm.MethodName) ({ cls := "RailingsCountModel", name := "best", desc := "(I)I" } : Jvm.MethodName)) ∈ lw_all := lw_g (lw_at lw_m8 108 rfl) rfl
theorem q1909 : (Jvm.Cond.code ({ cls := "RailingsCountModel", name := "best", desc := "(I)I" } : Jvm.MethodName) prog_20_method_114_code (9 : Nat) (Option.some Jvm.ClassFile.FieldType.int)) ∈ lw_all := lw_g (lw_at lw_m8 109 rfl) rfl
theorem q1911 : (Jvm.Cond.instanceMethod ({ cls := "RailingsCountModel", name := "tell", desc := "(III)I" } : Jvm.MethodName)) ∈ lw_all := lw_g (lw_at lw_m8 111 rfl) rfl
theorem q1912 : (Jvm.Cond.selects "RailingsCountModel" ({ cls := "RailingsCountModel", name := "tell", desc := "(III)I" } : Jvm.MethodName) ({ cls := "RailingsCountModel", name := "tell", desc := "(III)I" } : Jvm.MethodName)) ∈ lw_all := lw_g (lw_at lw_m8 112 rfl) rfl
theorem q1913 : (Jvm.Cond.code ({ cls := "RailingsCountModel", name := "tell", desc := "(III)I" } : Jvm.MethodName) prog_20_method_115_code (5 : Nat) (Option.some Jvm.ClassFile.FieldType.int)) ∈ lw_all := lw_g (lw_at lw_m8 113 rfl) rfl
theorem q1915 : (Jvm.Cond.instanceMethod ({ cls := "RailingsCountModel", name := "could", desc := "(II)I" } : Jvm.MethodName)) ∈ lw_all := lw_g (lw_at lw_m8 115 rfl) rfl
theorem q1916 : (Jvm.Cond.selects "RailingsCountModel" ({ cls := "RailingsCountModel", name := "could", desc := "(II)I" } : Jvm.MethodName) ({ cls := "RailingsCountModel", name := "could", desc := "(II)I" } : Jvm.MethodName)) ∈ lw_all := lw_g (lw_at lw_m8 116 rfl) rfl
theorem q1917 : (Jvm.Cond.code ({ cls := "RailingsCountModel", name := "could", desc := "(II)I" } : Jvm.MethodName) prog_20_method_118_code (7 : Nat) (Option.some Jvm.ClassFile.FieldType.int)) ∈ lw_all := lw_g (lw_at lw_m8 117 rfl) rfl
theorem q1918 : (Jvm.Cond.methodLink "RailingsCountModel" (412 : Nat) ({ cls := "RailingsCountModel", name := "canBe", desc := "(II)Z" } : Jvm.MethodName)) ∈ lw_all := lw_g (lw_at lw_m8 118 rfl) rfl
theorem q1919 : (Jvm.Cond.privateMethod ({ cls := "RailingsCountModel", name := "canBe", desc := "(II)Z" } : Jvm.MethodName)) ∈ lw_tbl := lw_at lw_m8 119 rfl
theorem q1920 : (Jvm.Cond.instanceMethod ({ cls := "RailingsCountModel", name := "canBe", desc := "(II)Z" } : Jvm.MethodName)) ∈ lw_all := lw_g (lw_at lw_m8 120 rfl) rfl
theorem q1921 : (Jvm.Cond.code ({ cls := "RailingsCountModel", name := "canBe", desc := "(II)Z" } : Jvm.MethodName) prog_20_method_117_code (4 : Nat) (Option.some Jvm.ClassFile.FieldType.boolean)) ∈ lw_all := lw_g (lw_at lw_m8 121 rfl) rfl
theorem q1922 : (Jvm.Cond.methodLink "RailingsCountModel" (409 : Nat) ({ cls := "RailingsCountModel", name := "manyIn", desc := "(III)I" } : Jvm.MethodName)) ∈ lw_all := lw_g (lw_at lw_m8 122 rfl) rfl
theorem q1923 : (Jvm.Cond.static ({ cls := "RailingsCountModel", name := "manyIn", desc := "(III)I" } : Jvm.MethodName)) ∈ lw_all := lw_g (lw_at lw_m8 123 rfl) rfl
theorem q1924 : (Jvm.Cond.code ({ cls := "RailingsCountModel", name := "manyIn", desc := "(III)I" } : Jvm.MethodName) prog_20_method_116_code (3 : Nat) (Option.some Jvm.ClassFile.FieldType.int)) ∈ lw_all := lw_g (lw_at lw_m8 124 rfl) rfl
theorem q1925 : (Jvm.Cond.methodLink "RailingsCountModel" (406 : Nat) ({ cls := "RailingsCountModel", name := "bits", desc := "(I)I" } : Jvm.MethodName)) ∈ lw_all := lw_g (lw_at lw_m8 125 rfl) rfl
theorem q1926 : (Jvm.Cond.static ({ cls := "RailingsCountModel", name := "bits", desc := "(I)I" } : Jvm.MethodName)) ∈ lw_all := lw_g (lw_at lw_m8 126 rfl) rfl
theorem q1927 : (Jvm.Cond.code ({ cls := "RailingsCountModel", name := "bits", desc := "(I)I" } : Jvm.MethodName) prog_20_method_6_code (3 : Nat) (Option.some Jvm.ClassFile.FieldType.int)) ∈ lw_all := lw_g (lw_at lw_m8 127 rfl) rfl
theorem q1929 : (Jvm.Cond.instanceMethod ({ cls := "RailingsCountModel", name := "ask", desc := "(I)I" } : Jvm.MethodName)) ∈ lw_all := lw_g (lw_at lw_m8 129 rfl) rfl
theorem q1930 : (Jvm.Cond.selects "RailingsCountModel" ({ cls := "RailingsCountModel", name := "ask", desc := "(I)I" } : Jvm.MethodName) ({ cls := "RailingsCountModel", name := "ask", desc := "(I)I" } : Jvm.MethodName)) ∈ lw_all := lw_g (lw_at lw_m8 130 rfl) rfl
theorem q1931 : (Jvm.Cond.code ({ cls := "RailingsCountModel", name := "ask", desc := "(I)I" } : Jvm.MethodName) prog_20_method_120_code (8 : Nat) (Option.some Jvm.ClassFile.FieldType.int)) ∈ lw_all := lw_g (lw_at lw_m8 131 rfl) rfl
theorem q1932 : (Jvm.Cond.constant "RailingsCountModel" (415 : Nat) (1000000 : Int32)) ∈ lw_all := lw_g (lw_at lw_m8 132 rfl) rfl
theorem q1933 : (Jvm.Cond.methodLink "RailingsCountModel" (416 : Nat) ({ cls := "RailingsCountModel", name := "mostLeft", desc := "(II)I" } : Jvm.MethodName)) ∈ lw_all := lw_g (lw_at lw_m8 133 rfl) rfl
theorem q1934 : (Jvm.Cond.privateMethod ({ cls := "RailingsCountModel", name := "mostLeft", desc := "(II)I" } : Jvm.MethodName)) ∈ lw_tbl := lw_at lw_m8 134 rfl
theorem q1935 : (Jvm.Cond.instanceMethod ({ cls := "RailingsCountModel", name := "mostLeft", desc := "(II)I" } : Jvm.MethodName)) ∈ lw_all := lw_g (lw_at lw_m8 135 rfl) rfl
theorem q1936 : (Jvm.Cond.code ({ cls := "RailingsCountModel", name := "mostLeft", desc := "(II)I" } : Jvm.MethodName) prog_20_method_119_code (5 : Nat) (Option.some Jvm.ClassFile.FieldType.int)) ∈ lw_all := lw_g (lw_at lw_m8 136 rfl) rfl
theorem q1938 : (Jvm.Cond.instanceMethod ({ cls := "RailingsCountModel", name := "sings", desc := "(IIZ)I" } : Jvm.MethodName)) ∈ lw_all := lw_g (lw_at lw_m8 138 rfl) rfl
theorem q1939 : (Jvm.Cond.selects "RailingsCountModel" ({ cls := "RailingsCountModel", name := "sings", desc := "(IIZ)I" } : Jvm.MethodName) ({ cls := "RailingsCountModel", name := "sings", desc := "(IIZ)I" } : Jvm.MethodName)) ∈ lw_all := lw_g (lw_at lw_m8 139 rfl) rfl
theorem q1940 : (Jvm.Cond.code ({ cls := "RailingsCountModel", name := "sings", desc := "(IIZ)I" } : Jvm.MethodName) prog_20_method_122_code (10 : Nat) (Option.some Jvm.ClassFile.FieldType.int)) ∈ lw_all := lw_g (lw_at lw_m8 140 rfl) rfl
theorem q1941 : (Jvm.Cond.methodLink "RailingsCountModel" (419 : Nat) ({ cls := "RailingsCountModel", name := "costBy", desc := "(III)I" } : Jvm.MethodName)) ∈ lw_all := lw_g (lw_at lw_m8 141 rfl) rfl
theorem q1942 : (Jvm.Cond.privateMethod ({ cls := "RailingsCountModel", name := "costBy", desc := "(III)I" } : Jvm.MethodName)) ∈ lw_tbl := lw_at lw_m8 142 rfl
theorem q1943 : (Jvm.Cond.instanceMethod ({ cls := "RailingsCountModel", name := "costBy", desc := "(III)I" } : Jvm.MethodName)) ∈ lw_all := lw_g (lw_at lw_m8 143 rfl) rfl
theorem q1944 : (Jvm.Cond.code ({ cls := "RailingsCountModel", name := "costBy", desc := "(III)I" } : Jvm.MethodName) prog_20_method_121_code (6 : Nat) (Option.some Jvm.ClassFile.FieldType.int)) ∈ lw_all := lw_g (lw_at lw_m8 144 rfl) rfl
theorem q1946 : (Jvm.Cond.instanceMethod ({ cls := "RailingsCountModel", name := "visits", desc := "(II)I" } : Jvm.MethodName)) ∈ lw_all := lw_g (lw_at lw_m8 146 rfl) rfl
theorem q1947 : (Jvm.Cond.selects "RailingsCountModel" ({ cls := "RailingsCountModel", name := "visits", desc := "(II)I" } : Jvm.MethodName) ({ cls := "RailingsCountModel", name := "visits", desc := "(II)I" } : Jvm.MethodName)) ∈ lw_all := lw_g (lw_at lw_m8 147 rfl) rfl
theorem q1948 : (Jvm.Cond.code ({ cls := "RailingsCountModel", name := "visits", desc := "(II)I" } : Jvm.MethodName) prog_20_method_123_code (5 : Nat) (Option.some Jvm.ClassFile.FieldType.int)) ∈ lw_all := lw_g (lw_at lw_m8 148 rfl) rfl
theorem q1950 : (Jvm.Cond.instanceMethod ({ cls := "RailingsCountModel", name := "meet", desc := "(IIII)I" } : Jvm.MethodName)) ∈ lw_all := lw_g (lw_at lw_m8 150 rfl) rfl
theorem q1951 : (Jvm.Cond.selects "RailingsCountModel" ({ cls := "RailingsCountModel", name := "meet", desc := "(IIII)I" } : Jvm.MethodName) ({ cls := "RailingsCountModel", name := "meet", desc := "(IIII)I" } : Jvm.MethodName)) ∈ lw_all := lw_g (lw_at lw_m8 151 rfl) rfl
theorem q1952 : (Jvm.Cond.code ({ cls := "RailingsCountModel", name := "meet", desc := "(IIII)I" } : Jvm.MethodName) prog_20_method_124_code (6 : Nat) (Option.some Jvm.ClassFile.FieldType.int)) ∈ lw_all := lw_g (lw_at lw_m8 152 rfl) rfl
theorem q1954 : (Jvm.Cond.instanceMethod ({ cls := "RailingsCountModel", name := "period", desc := "()I" } : Jvm.MethodName)) ∈ lw_all := lw_g (lw_at lw_m8 154 rfl) rfl
theorem q1955 : (Jvm.Cond.selects "RailingsCountModel" ({ cls := "RailingsCountModel", name := "period", desc := "()I" } : Jvm.MethodName) ({ cls := "RailingsCountModel", name := "period", desc := "()I" } : Jvm.MethodName)) ∈ lw_all := lw_g (lw_at lw_m8 155 rfl) rfl
theorem q1956 : (Jvm.Cond.code ({ cls := "RailingsCountModel", name := "period", desc := "()I" } : Jvm.MethodName) prog_20_method_126_code (2 : Nat) (Option.some Jvm.ClassFile.FieldType.int)) ∈ lw_all := lw_g (lw_at lw_m8 156 rfl) rfl
theorem q1957 : (Jvm.Cond.methodLink "RailingsCountModel" (422 : Nat) ({ cls := "RailingsCountModel", name := "isTurn", desc := "(I)Z" } : Jvm.MethodName)) ∈ lw_all := lw_g (lw_at lw_m8 157 rfl) rfl
theorem q1958 : (Jvm.Cond.privateMethod ({ cls := "RailingsCountModel", name := "isTurn", desc := "(I)Z" } : Jvm.MethodName)) ∈ lw_tbl := lw_at lw_m8 158 rfl
theorem q1959 : (Jvm.Cond.instanceMethod ({ cls := "RailingsCountModel", name := "isTurn", desc := "(I)Z" } : Jvm.MethodName)) ∈ lw_all := lw_g (lw_at lw_m8 159 rfl) rfl
theorem q1960 : (Jvm.Cond.code ({ cls := "RailingsCountModel", name := "isTurn", desc := "(I)Z" } : Jvm.MethodName) prog_20_method_125_code (3 : Nat) (Option.some Jvm.ClassFile.FieldType.boolean)) ∈ lw_all := lw_g (lw_at lw_m8 160 rfl) rfl
theorem q1962 : (Jvm.Cond.instanceMethod ({ cls := "RailingsCountModel", name := "least", desc := "()I" } : Jvm.MethodName)) ∈ lw_all := lw_g (lw_at lw_m8 162 rfl) rfl
theorem q1963 : (Jvm.Cond.selects "RailingsCountModel" ({ cls := "RailingsCountModel", name := "least", desc := "()I" } : Jvm.MethodName) ({ cls := "RailingsCountModel", name := "least", desc := "()I" } : Jvm.MethodName)) ∈ lw_all := lw_g (lw_at lw_m8 163 rfl) rfl
theorem q1964 : (Jvm.Cond.code ({ cls := "RailingsCountModel", name := "least", desc := "()I" } : Jvm.MethodName) prog_20_method_128_code (3 : Nat) (Option.some Jvm.ClassFile.FieldType.int)) ∈ lw_all := lw_g (lw_at lw_m8 164 rfl) rfl
theorem q1965 : (Jvm.Cond.methodLink "RailingsCountModel" (425 : Nat) ({ cls := "RailingsCountModel", name := "isAhead", desc := "(II)Z" } : Jvm.MethodName)) ∈ lw_all := lw_g (lw_at lw_m8 165 rfl) rfl
theorem q1966 : (Jvm.Cond.privateMethod ({ cls := "RailingsCountModel", name := "isAhead", desc := "(II)Z" } : Jvm.MethodName)) ∈ lw_tbl := lw_at lw_m8 166 rfl
theorem q1967 : (Jvm.Cond.instanceMethod ({ cls := "RailingsCountModel", name := "isAhead", desc := "(II)Z" } : Jvm.MethodName)) ∈ lw_all := lw_g (lw_at lw_m8 167 rfl) rfl
theorem q1968 : (Jvm.Cond.code ({ cls := "RailingsCountModel", name := "isAhead", desc := "(II)Z" } : Jvm.MethodName) prog_20_method_127_code (6 : Nat) (Option.some Jvm.ClassFile.FieldType.boolean)) ∈ lw_all := lw_g (lw_at lw_m8 168 rfl) rfl
theorem q1970 : (Jvm.Cond.instanceMethod ({ cls := "RailingsCountModel", name := "mirrors", desc := "()I" } : Jvm.MethodName)) ∈ lw_all := lw_g (lw_at lw_m8 170 rfl) rfl
theorem q1971 : (Jvm.Cond.selects "RailingsCountModel" ({ cls := "RailingsCountModel", name := "mirrors", desc := "()I" } : Jvm.MethodName) ({ cls := "RailingsCountModel", name := "mirrors", desc := "()I" } : Jvm.MethodName)) ∈ lw_all := lw_g (lw_at lw_m8 171 rfl) rfl
theorem q1972 : (Jvm.Cond.code ({ cls := "RailingsCountModel", name := "mirrors", desc := "()I" } : Jvm.MethodName) prog_20_method_130_code (3 : Nat) (Option.some Jvm.ClassFile.FieldType.int)) ∈ lw_all := lw_g (lw_at lw_m8 172 rfl) rfl
theorem q1973 : (Jvm.Cond.methodLink "RailingsCountModel" (428 : Nat) ({ cls := "RailingsCountModel", name := "isMirror", desc := "(I)Z" } : Jvm.MethodName)) ∈ lw_all := lw_g (lw_at lw_m8 173 rfl) rfl
theorem q1974 : (Jvm.Cond.privateMethod ({ cls := "RailingsCountModel", name := "isMirror", desc := "(I)Z" } : Jvm.MethodName)) ∈ lw_tbl := lw_at lw_m8 174 rfl
theorem q1975 : (Jvm.Cond.instanceMethod ({ cls := "RailingsCountModel", name := "isMirror", desc := "(I)Z" } : Jvm.MethodName)) ∈ lw_all := lw_g (lw_at lw_m8 175 rfl) rfl
theorem q1976 : (Jvm.Cond.code ({ cls := "RailingsCountModel", name := "isMirror", desc := "(I)Z" } : Jvm.MethodName) prog_20_method_129_code (3 : Nat) (Option.some Jvm.ClassFile.FieldType.boolean)) ∈ lw_all := lw_g (lw_at lw_m8 176 rfl) rfl
theorem q1978 : (Jvm.Cond.instanceMethod ({ cls := "RailingsCountModel", name := "longest", desc := "(IZ)I" } : Jvm.MethodName)) ∈ lw_all := lw_g (lw_at lw_m8 178 rfl) rfl
theorem q1979 : (Jvm.Cond.selects "RailingsCountModel" ({ cls := "RailingsCountModel", name := "longest", desc := "(IZ)I" } : Jvm.MethodName) ({ cls := "RailingsCountModel", name := "longest", desc := "(IZ)I" } : Jvm.MethodName)) ∈ lw_all := lw_g (lw_at lw_m8 179 rfl) rfl
theorem q1980 : (Jvm.Cond.code ({ cls := "RailingsCountModel", name := "longest", desc := "(IZ)I" } : Jvm.MethodName) prog_20_method_131_code (7 : Nat) (Option.some Jvm.ClassFile.FieldType.int)) ∈ lw_all := lw_g (lw_at lw_m8 180 rfl) rfl
theorem q1982 : (Jvm.Cond.instanceMethod ({ cls := "RailingsCountModel", name := "arc", desc := "(I)I" } : Jvm.MethodName)) ∈ lw_all := lw_g (lw_at lw_m8 182 rfl) rfl
theorem q1983 : (Jvm.Cond.selects "RailingsCountModel" ({ cls := "RailingsCountModel", name := "arc", desc := "(I)I" } : Jvm.MethodName) ({ cls := "RailingsCountModel", name := "arc", desc := "(I)I" } : Jvm.MethodName)) ∈ lw_all := lw_g (lw_at lw_m8 183 rfl) rfl
theorem q1984 : (Jvm.Cond.code ({ cls := "RailingsCountModel", name := "arc", desc := "(I)I" } : Jvm.MethodName) prog_20_method_132_code (4 : Nat) (Option.some Jvm.ClassFile.FieldType.int)) ∈ lw_all := lw_g (lw_at lw_m8 184 rfl) rfl
theorem q1986 : (Jvm.Cond.instanceMethod ({ cls := "RailingsCountModel", name := "quiet", desc := "(I)I" } : Jvm.MethodName)) ∈ lw_all := lw_g (lw_at lw_m8 186 rfl) rfl
theorem q1987 : (Jvm.Cond.selects "RailingsCountModel" ({ cls := "RailingsCountModel", name := "quiet", desc := "(I)I" } : Jvm.MethodName) ({ cls := "RailingsCountModel", name := "quiet", desc := "(I)I" } : Jvm.MethodName)) ∈ lw_all := lw_g (lw_at lw_m8 187 rfl) rfl
theorem q1988 : (Jvm.Cond.code ({ cls := "RailingsCountModel", name := "quiet", desc := "(I)I" } : Jvm.MethodName) prog_20_method_133_code (4 : Nat) (Option.some Jvm.ClassFile.FieldType.int)) ∈ lw_all := lw_g (lw_at lw_m8 188 rfl) rfl
theorem q1990 : (Jvm.Cond.instanceMethod ({ cls := "RailingsCountModel", name := "changed", desc := "()I" } : Jvm.MethodName)) ∈ lw_all := lw_g (lw_at lw_m8 190 rfl) rfl
theorem q1991 : (Jvm.Cond.selects "RailingsCountModel" ({ cls := "RailingsCountModel", name := "changed", desc := "()I" } : Jvm.MethodName) ({ cls := "RailingsCountModel", name := "changed", desc := "()I" } : Jvm.MethodName)) ∈ lw_all := lw_g (lw_at lw_m8 191 rfl) rfl
theorem q1992 : (Jvm.Cond.code ({ cls := "RailingsCountModel", name := "changed", desc := "()I" } : Jvm.MethodName) prog_20_method_134_code (3 : Nat) (Option.some Jvm.ClassFile.FieldType.int)) ∈ lw_all := lw_g (lw_at lw_m8 192 rfl) rfl
theorem q1994 : (Jvm.Cond.instanceMethod ({ cls := "RailingsCountModel", name := "said", desc := "(III)I" } : Jvm.MethodName)) ∈ lw_all := lw_g (lw_at lw_m8 194 rfl) rfl
theorem q1995 : (Jvm.Cond.selects "RailingsCountModel" ({ cls := "RailingsCountModel", name := "said", desc := "(III)I" } : Jvm.MethodName) ({ cls := "RailingsCountModel", name := "said", desc := "(III)I" } : Jvm.MethodName)) ∈ lw_all := lw_g (lw_at lw_m8 195 rfl) rfl
theorem q1996 : (Jvm.Cond.code ({ cls := "RailingsCountModel", name := "said", desc := "(III)I" } : Jvm.MethodName) prog_20_method_135_code (5 : Nat) (Option.some Jvm.ClassFile.FieldType.int)) ∈ lw_all := lw_g (lw_at lw_m8 196 rfl) rfl
theorem q1998 : (Jvm.Cond.instanceMethod ({ cls := "RailingsCountModel", name := "whose", desc := "()I" } : Jvm.MethodName)) ∈ lw_all := lw_g (lw_at lw_m8 198 rfl) rfl
theorem q1999 : (Jvm.Cond.selects "RailingsCountModel" ({ cls := "RailingsCountModel", name := "whose", desc := "()I" } : Jvm.MethodName) ({ cls := "RailingsCountModel", name := "whose", desc := "()I" } : Jvm.MethodName)) ∈ lw_all := lw_g (lw_at lw_m8 199 rfl) rfl
theorem q2000 : (Jvm.Cond.code ({ cls := "RailingsCountModel", name := "whose", desc := "()I" } : Jvm.MethodName) prog_20_method_136_code (5 : Nat) (Option.some Jvm.ClassFile.FieldType.int)) ∈ lw_all := lw_g (lw_at lw_m8 200 rfl) rfl
theorem q2002 : (Jvm.Cond.instanceMethod ({ cls := "RailingsCountModel", name := "image", desc := "()I" } : Jvm.MethodName)) ∈ lw_all := lw_g (lw_at lw_m8 202 rfl) rfl
theorem q2003 : (Jvm.Cond.selects "RailingsCountModel" ({ cls := "RailingsCountModel", name := "image", desc := "()I" } : Jvm.MethodName) ({ cls := "RailingsCountModel", name := "image", desc := "()I" } : Jvm.MethodName)) ∈ lw_all := lw_g (lw_at lw_m8 203 rfl) rfl
theorem q2004 : (Jvm.Cond.code ({ cls := "RailingsCountModel", name := "image", desc := "()I" } : Jvm.MethodName) prog_20_method_137_code (1 : Nat) (Option.some Jvm.ClassFile.FieldType.int)) ∈ lw_all := lw_g (lw_at lw_m8 204 rfl) rfl
theorem q2006 : (Jvm.Cond.instanceMethod ({ cls := "RailingsCountModel", name := "back", desc := "()I" } : Jvm.MethodName)) ∈ lw_all := lw_g (lw_at lw_m8 206 rfl) rfl
theorem q2007 : (Jvm.Cond.selects "RailingsCountModel" ({ cls := "RailingsCountModel", name := "back", desc := "()I" } : Jvm.MethodName) ({ cls := "RailingsCountModel", name := "back", desc := "()I" } : Jvm.MethodName)) ∈ lw_all := lw_g (lw_at lw_m8 207 rfl) rfl
theorem q2008 : (Jvm.Cond.code ({ cls := "RailingsCountModel", name := "back", desc := "()I" } : Jvm.MethodName) prog_20_method_138_code (1 : Nat) (Option.some Jvm.ClassFile.FieldType.int)) ∈ lw_all := lw_g (lw_at lw_m8 208 rfl) rfl
theorem q2010 : (Jvm.Cond.instanceMethod ({ cls := "RailingsCountModel", name := "about", desc := "(I)I" } : Jvm.MethodName)) ∈ lw_all := lw_g (lw_at lw_m8 210 rfl) rfl
theorem q2011 : (Jvm.Cond.selects "RailingsCountModel" ({ cls := "RailingsCountModel", name := "about", desc := "(I)I" } : Jvm.MethodName) ({ cls := "RailingsCountModel", name := "about", desc := "(I)I" } : Jvm.MethodName)) ∈ lw_all := lw_g (lw_at lw_m8 211 rfl) rfl
theorem q2012 : (Jvm.Cond.code ({ cls := "RailingsCountModel", name := "about", desc := "(I)I" } : Jvm.MethodName) prog_20_method_139_code (2 : Nat) (Option.some Jvm.ClassFile.FieldType.int)) ∈ lw_all := lw_g (lw_at lw_m8 212 rfl) rfl
theorem q2020 : (Jvm.Cond.castable "RailingsCountModel" "java/lang/Object") ∈ lw_tbl := lw_at lw_m8 220 rfl
theorem in_X2 : ∀ w ∈ wsX20, w ∈ lw_all := lw_in wsX20 [1404, 1406, 1408, 1410, 1412, 1414, 1416, 1418, 1420, 1422, 1424, 1426, 1428, 1430, 1432, 1434, 1436, 1438, 1440, 1442, 1444, 1446, 1448, 1450, 1452, 1454, 1456, 1458, 1460, 1462, 1464, 1466] (by decide +kernel) (by decide +kernel)
