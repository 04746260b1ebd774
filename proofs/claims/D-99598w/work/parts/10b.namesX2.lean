/-! RailingsCount$Tokens -/
set_option maxRecDepth 100000
def RX3 : String := "RailingsCount$Tokens"
def TX3 : u_T := fun k => match k with
  | 0 => ("RailingsCount$Tokens", "text", "[B", true)
  | 1 => ("RailingsCount$Tokens", "size", "I", true)
  | 2 => ("RailingsCount$Tokens", "at", "I", false)
  | 3 => ("RailingsCount$Tokens", "token", "I", false)
  | 4 => ("RailingsCount$Tokens", "sort", "I", false)
  | 5 => ("RailingsCount$Tokens", "number", "I", false)
  | 6 => ("RailingsCount$Tokens", "open", "I", false)
  | _ => ("RailingsCount$Tokens", "kind", "I", false)
def tyX3 : Nat → FieldType := fun k => match k with
  | 0 => .array .byte
  | 1 => .int
  | 2 => .int
  | 3 => .int
  | 4 => .int
  | 5 => .int
  | 6 => .int
  | _ => .int
abbrev wsX30 : List Cond := u_ws RX3 TX3 8
theorem nmX3 : ∀ a, a < 8 → ∀ b, b < 8 → a ≠ b → (TX3 a).2.1 ≠ (TX3 b).2.1 := by decide +kernel
theorem tyX3_ok : ∀ k, k < 8 → parseFieldDescriptor (TX3 k).2.2.1 = some (tyX3 k) := by decide +kernel
abbrev cX3_init : ByteArray := prog_17_method_1_code
def yX3_init : MethodName := ⟨RX3, "<init>", "([BI)V"⟩
def dkwX3_init_0 : List UInt8 := [42, 183, 0, 3, 42, 43, 181, 0, 9, 42, 28, 181, 0, 15, 177]
abbrev dktX3_init_0 : List UInt8 := dkwX3_init_0 ++ []
theorem dksX3_init_0 : cX3_init.data.toList.drop 0 = dktX3_init_0 := by decide +kernel
theorem dX3_init_0 : decode cX3_init 0 = .ok (.aload_n 0, 1) := dk_42 (dk_at dksX3_init_0 0 rfl rfl)
theorem dX3_init_1 : decode cX3_init 1 = .ok (.invokespecial 3, 3) := dk_183 0 3 (dk_at dksX3_init_0 1 rfl rfl)
theorem dX3_init_4 : decode cX3_init 4 = .ok (.aload_n 0, 1) := dk_42 (dk_at dksX3_init_0 4 rfl rfl)
theorem dX3_init_5 : decode cX3_init 5 = .ok (.aload_n 1, 1) := dk_43 (dk_at dksX3_init_0 5 rfl rfl)
theorem dX3_init_6 : decode cX3_init 6 = .ok (.putfield 9, 3) := dk_181 0 9 (dk_at dksX3_init_0 6 rfl rfl)
theorem dX3_init_9 : decode cX3_init 9 = .ok (.aload_n 0, 1) := dk_42 (dk_at dksX3_init_0 9 rfl rfl)
theorem dX3_init_10 : decode cX3_init 10 = .ok (.iload_n 2, 1) := dk_28 (dk_at dksX3_init_0 10 rfl rfl)
theorem dX3_init_11 : decode cX3_init 11 = .ok (.putfield 15, 3) := dk_181 0 15 (dk_at dksX3_init_0 11 rfl rfl)
theorem dX3_init_14 : decode cX3_init 14 = .ok (.return_, 1) := dk_177 (dk_at dksX3_init_0 14 rfl rfl)
abbrev cX3_read : ByteArray := prog_17_method_10_code
def yX3_read : MethodName := ⟨RX3, "read", "()LRailingsCount$Text;"⟩
def dkwX3_read_7 : List UInt8 := [96, 181, 0, 90, 167, 255, 98, 43, 176]
abbrev dktX3_read_7 : List UInt8 := dkwX3_read_7 ++ []
def dkwX3_read_6 : List UInt8 := [42, 43, 180, 0, 90, 182, 0, 101, 182, 0, 105, 87, 42, 16, 59, 182, 0, 111, 43, 89, 180, 0, 90, 4]
abbrev dktX3_read_6 : List UInt8 := dkwX3_read_6 ++ dktX3_read_7
def dkwX3_read_5 : List UInt8 := [43, 180, 0, 86, 42, 180, 0, 83, 17, 0, 200, 100, 42, 182, 0, 93, 83, 167, 0, 19, 43, 180, 0, 97]
abbrev dktX3_read_5 : List UInt8 := dkwX3_read_5 ++ dktX3_read_6
def dkwX3_read_4 : List UInt8 := [160, 0, 10, 42, 16, 6, 182, 0, 70, 191, 42, 182, 0, 74, 42, 180, 0, 83, 17, 0, 201, 163, 0, 23]
abbrev dktX3_read_4 : List UInt8 := dkwX3_read_4 ++ dktX3_read_5
def dkwX3_read_3 : List UInt8 := [180, 0, 83, 17, 0, 200, 100, 50, 198, 0, 9, 42, 7, 182, 0, 70, 191, 43, 180, 0, 90, 16, 24]
abbrev dktX3_read_3 : List UInt8 := dkwX3_read_3 ++ dktX3_read_4
def dkwX3_read_2 : List UInt8 := [191, 42, 42, 180, 0, 25, 181, 0, 83, 42, 180, 0, 83, 17, 0, 201, 163, 0, 25, 43, 180, 0, 86, 42]
abbrev dktX3_read_2 : List UInt8 := dkwX3_read_2 ++ dktX3_read_3
def dkwX3_read_1 : List UInt8 := [180, 0, 25, 17, 0, 200, 161, 0, 13, 42, 180, 0, 25, 17, 0, 208, 164, 0, 9, 42, 4, 182, 0, 70]
abbrev dktX3_read_1 : List UInt8 := dkwX3_read_1 ++ dktX3_read_2
def dkwX3_read_0 : List UInt8 := [187, 0, 80, 89, 183, 0, 82, 76, 42, 182, 0, 74, 42, 180, 0, 25, 17, 1, 45, 159, 0, 154, 42]
abbrev dktX3_read_0 : List UInt8 := dkwX3_read_0 ++ dktX3_read_1
theorem dksX3_read_0 : cX3_read.data.toList.drop 0 = dktX3_read_0 := by decide +kernel
theorem dksX3_read_1 : cX3_read.data.toList.drop 23 = dktX3_read_1 := dk_seg dksX3_read_0 23 rfl rfl
theorem dksX3_read_2 : cX3_read.data.toList.drop 47 = dktX3_read_2 := dk_seg dksX3_read_1 24 rfl rfl
theorem dksX3_read_3 : cX3_read.data.toList.drop 71 = dktX3_read_3 := dk_seg dksX3_read_2 24 rfl rfl
theorem dksX3_read_4 : cX3_read.data.toList.drop 94 = dktX3_read_4 := dk_seg dksX3_read_3 23 rfl rfl
theorem dksX3_read_5 : cX3_read.data.toList.drop 118 = dktX3_read_5 := dk_seg dksX3_read_4 24 rfl rfl
theorem dksX3_read_6 : cX3_read.data.toList.drop 142 = dktX3_read_6 := dk_seg dksX3_read_5 24 rfl rfl
theorem dksX3_read_7 : cX3_read.data.toList.drop 166 = dktX3_read_7 := dk_seg dksX3_read_6 24 rfl rfl
theorem dX3_read_0 : decode cX3_read 0 = .ok (.new 80, 3) := dk_187 0 80 (dk_at dksX3_read_0 0 rfl rfl)
theorem dX3_read_3 : decode cX3_read 3 = .ok (.dup, 1) := dk_89 (dk_at dksX3_read_0 3 rfl rfl)
theorem dX3_read_4 : decode cX3_read 4 = .ok (.invokespecial 82, 3) := dk_183 0 82 (dk_at dksX3_read_0 4 rfl rfl)
theorem dX3_read_7 : decode cX3_read 7 = .ok (.astore_n 1, 1) := dk_76 (dk_at dksX3_read_0 7 rfl rfl)
theorem dX3_read_8 : decode cX3_read 8 = .ok (.aload_n 0, 1) := dk_42 (dk_at dksX3_read_0 8 rfl rfl)
theorem dX3_read_9 : decode cX3_read 9 = .ok (.invokevirtual 74, 3) := dk_182 0 74 (dk_at dksX3_read_0 9 rfl rfl)
theorem dX3_read_12 : decode cX3_read 12 = .ok (.aload_n 0, 1) := dk_42 (dk_at dksX3_read_0 12 rfl rfl)
theorem dX3_read_13 : decode cX3_read 13 = .ok (.getfield 25, 3) := dk_180 0 25 (dk_at dksX3_read_0 13 rfl rfl)
theorem dX3_read_16 : decode cX3_read 16 = .ok (.sipush 301, 3) := dk_17 1 45 (dk_at dksX3_read_0 16 rfl rfl)
theorem dX3_read_19 : decode cX3_read 19 = .ok (.if_icmp .eq 154, 3) := dk_159 0 154 (dk_at dksX3_read_0 19 rfl rfl)
theorem dX3_read_22 : decode cX3_read 22 = .ok (.aload_n 0, 1) := dk_42 (dk_at dksX3_read_0 22 rfl rfl)
theorem dX3_read_23 : decode cX3_read 23 = .ok (.getfield 25, 3) := dk_180 0 25 (dk_at dksX3_read_1 0 rfl rfl)
theorem dX3_read_26 : decode cX3_read 26 = .ok (.sipush 200, 3) := dk_17 0 200 (dk_at dksX3_read_1 3 rfl rfl)
theorem dX3_read_29 : decode cX3_read 29 = .ok (.if_icmp .lt 13, 3) := dk_161 0 13 (dk_at dksX3_read_1 6 rfl rfl)
theorem dX3_read_32 : decode cX3_read 32 = .ok (.aload_n 0, 1) := dk_42 (dk_at dksX3_read_1 9 rfl rfl)
theorem dX3_read_33 : decode cX3_read 33 = .ok (.getfield 25, 3) := dk_180 0 25 (dk_at dksX3_read_1 10 rfl rfl)
theorem dX3_read_36 : decode cX3_read 36 = .ok (.sipush 208, 3) := dk_17 0 208 (dk_at dksX3_read_1 13 rfl rfl)
theorem dX3_read_39 : decode cX3_read 39 = .ok (.if_icmp .le 9, 3) := dk_164 0 9 (dk_at dksX3_read_1 16 rfl rfl)
theorem dX3_read_42 : decode cX3_read 42 = .ok (.aload_n 0, 1) := dk_42 (dk_at dksX3_read_1 19 rfl rfl)
theorem dX3_read_43 : decode cX3_read 43 = .ok (.iconst 1, 1) := dk_4 (dk_at dksX3_read_1 20 rfl rfl)
theorem dX3_read_44 : decode cX3_read 44 = .ok (.invokevirtual 70, 3) := dk_182 0 70 (dk_at dksX3_read_1 21 rfl rfl)
theorem dX3_read_47 : decode cX3_read 47 = .ok (.athrow, 1) := dk_191 (dk_at dksX3_read_2 0 rfl rfl)
theorem dX3_read_48 : decode cX3_read 48 = .ok (.aload_n 0, 1) := dk_42 (dk_at dksX3_read_2 1 rfl rfl)
theorem dX3_read_49 : decode cX3_read 49 = .ok (.aload_n 0, 1) := dk_42 (dk_at dksX3_read_2 2 rfl rfl)
theorem dX3_read_50 : decode cX3_read 50 = .ok (.getfield 25, 3) := dk_180 0 25 (dk_at dksX3_read_2 3 rfl rfl)
theorem dX3_read_53 : decode cX3_read 53 = .ok (.putfield 83, 3) := dk_181 0 83 (dk_at dksX3_read_2 6 rfl rfl)
theorem dX3_read_56 : decode cX3_read 56 = .ok (.aload_n 0, 1) := dk_42 (dk_at dksX3_read_2 9 rfl rfl)
theorem dX3_read_57 : decode cX3_read 57 = .ok (.getfield 83, 3) := dk_180 0 83 (dk_at dksX3_read_2 10 rfl rfl)
theorem dX3_read_60 : decode cX3_read 60 = .ok (.sipush 201, 3) := dk_17 0 201 (dk_at dksX3_read_2 13 rfl rfl)
theorem dX3_read_63 : decode cX3_read 63 = .ok (.if_icmp .gt 25, 3) := dk_163 0 25 (dk_at dksX3_read_2 16 rfl rfl)
theorem dX3_read_66 : decode cX3_read 66 = .ok (.aload_n 1, 1) := dk_43 (dk_at dksX3_read_2 19 rfl rfl)
theorem dX3_read_67 : decode cX3_read 67 = .ok (.getfield 86, 3) := dk_180 0 86 (dk_at dksX3_read_2 20 rfl rfl)
theorem dX3_read_70 : decode cX3_read 70 = .ok (.aload_n 0, 1) := dk_42 (dk_at dksX3_read_2 23 rfl rfl)
theorem dX3_read_71 : decode cX3_read 71 = .ok (.getfield 83, 3) := dk_180 0 83 (dk_at dksX3_read_3 0 rfl rfl)
theorem dX3_read_74 : decode cX3_read 74 = .ok (.sipush 200, 3) := dk_17 0 200 (dk_at dksX3_read_3 3 rfl rfl)
theorem dX3_read_77 : decode cX3_read 77 = .ok (.isub, 1) := dk_100 (dk_at dksX3_read_3 6 rfl rfl)
theorem dX3_read_78 : decode cX3_read 78 = .ok (.aaload, 1) := dk_50 (dk_at dksX3_read_3 7 rfl rfl)
theorem dX3_read_79 : decode cX3_read 79 = .ok (.ifnull 9, 3) := dk_198 0 9 (dk_at dksX3_read_3 8 rfl rfl)
theorem dX3_read_82 : decode cX3_read 82 = .ok (.aload_n 0, 1) := dk_42 (dk_at dksX3_read_3 11 rfl rfl)
theorem dX3_read_83 : decode cX3_read 83 = .ok (.iconst 4, 1) := dk_7 (dk_at dksX3_read_3 12 rfl rfl)
theorem dX3_read_84 : decode cX3_read 84 = .ok (.invokevirtual 70, 3) := dk_182 0 70 (dk_at dksX3_read_3 13 rfl rfl)
theorem dX3_read_87 : decode cX3_read 87 = .ok (.athrow, 1) := dk_191 (dk_at dksX3_read_3 16 rfl rfl)
theorem dX3_read_88 : decode cX3_read 88 = .ok (.aload_n 1, 1) := dk_43 (dk_at dksX3_read_3 17 rfl rfl)
theorem dX3_read_89 : decode cX3_read 89 = .ok (.getfield 90, 3) := dk_180 0 90 (dk_at dksX3_read_3 18 rfl rfl)
theorem dX3_read_92 : decode cX3_read 92 = .ok (.bipush 24, 2) := dk_16 24 (dk_at dksX3_read_3 21 rfl rfl)
theorem dX3_read_94 : decode cX3_read 94 = .ok (.if_icmp .ne 10, 3) := dk_160 0 10 (dk_at dksX3_read_4 0 rfl rfl)
theorem dX3_read_97 : decode cX3_read 97 = .ok (.aload_n 0, 1) := dk_42 (dk_at dksX3_read_4 3 rfl rfl)
theorem dX3_read_98 : decode cX3_read 98 = .ok (.bipush 6, 2) := dk_16 6 (dk_at dksX3_read_4 4 rfl rfl)
theorem dX3_read_100 : decode cX3_read 100 = .ok (.invokevirtual 70, 3) := dk_182 0 70 (dk_at dksX3_read_4 6 rfl rfl)
theorem dX3_read_103 : decode cX3_read 103 = .ok (.athrow, 1) := dk_191 (dk_at dksX3_read_4 9 rfl rfl)
theorem dX3_read_104 : decode cX3_read 104 = .ok (.aload_n 0, 1) := dk_42 (dk_at dksX3_read_4 10 rfl rfl)
theorem dX3_read_105 : decode cX3_read 105 = .ok (.invokevirtual 74, 3) := dk_182 0 74 (dk_at dksX3_read_4 11 rfl rfl)
theorem dX3_read_108 : decode cX3_read 108 = .ok (.aload_n 0, 1) := dk_42 (dk_at dksX3_read_4 14 rfl rfl)
theorem dX3_read_109 : decode cX3_read 109 = .ok (.getfield 83, 3) := dk_180 0 83 (dk_at dksX3_read_4 15 rfl rfl)
theorem dX3_read_112 : decode cX3_read 112 = .ok (.sipush 201, 3) := dk_17 0 201 (dk_at dksX3_read_4 18 rfl rfl)
theorem dX3_read_115 : decode cX3_read 115 = .ok (.if_icmp .gt 23, 3) := dk_163 0 23 (dk_at dksX3_read_4 21 rfl rfl)
theorem dX3_read_118 : decode cX3_read 118 = .ok (.aload_n 1, 1) := dk_43 (dk_at dksX3_read_5 0 rfl rfl)
theorem dX3_read_119 : decode cX3_read 119 = .ok (.getfield 86, 3) := dk_180 0 86 (dk_at dksX3_read_5 1 rfl rfl)
theorem dX3_read_122 : decode cX3_read 122 = .ok (.aload_n 0, 1) := dk_42 (dk_at dksX3_read_5 4 rfl rfl)
theorem dX3_read_123 : decode cX3_read 123 = .ok (.getfield 83, 3) := dk_180 0 83 (dk_at dksX3_read_5 5 rfl rfl)
theorem dX3_read_126 : decode cX3_read 126 = .ok (.sipush 200, 3) := dk_17 0 200 (dk_at dksX3_read_5 8 rfl rfl)
theorem dX3_read_129 : decode cX3_read 129 = .ok (.isub, 1) := dk_100 (dk_at dksX3_read_5 11 rfl rfl)
theorem dX3_read_130 : decode cX3_read 130 = .ok (.aload_n 0, 1) := dk_42 (dk_at dksX3_read_5 12 rfl rfl)
theorem dX3_read_131 : decode cX3_read 131 = .ok (.invokevirtual 93, 3) := dk_182 0 93 (dk_at dksX3_read_5 13 rfl rfl)
theorem dX3_read_134 : decode cX3_read 134 = .ok (.aastore, 1) := dk_83 (dk_at dksX3_read_5 16 rfl rfl)
theorem dX3_read_135 : decode cX3_read 135 = .ok (.goto 19, 3) := dk_167 0 19 (dk_at dksX3_read_5 17 rfl rfl)
theorem dX3_read_138 : decode cX3_read 138 = .ok (.aload_n 1, 1) := dk_43 (dk_at dksX3_read_5 20 rfl rfl)
theorem dX3_read_139 : decode cX3_read 139 = .ok (.getfield 97, 3) := dk_180 0 97 (dk_at dksX3_read_5 21 rfl rfl)
theorem dX3_read_142 : decode cX3_read 142 = .ok (.aload_n 0, 1) := dk_42 (dk_at dksX3_read_6 0 rfl rfl)
theorem dX3_read_143 : decode cX3_read 143 = .ok (.aload_n 1, 1) := dk_43 (dk_at dksX3_read_6 1 rfl rfl)
theorem dX3_read_144 : decode cX3_read 144 = .ok (.getfield 90, 3) := dk_180 0 90 (dk_at dksX3_read_6 2 rfl rfl)
theorem dX3_read_147 : decode cX3_read 147 = .ok (.invokevirtual 101, 3) := dk_182 0 101 (dk_at dksX3_read_6 5 rfl rfl)
theorem dX3_read_150 : decode cX3_read 150 = .ok (.invokevirtual 105, 3) := dk_182 0 105 (dk_at dksX3_read_6 8 rfl rfl)
theorem dX3_read_153 : decode cX3_read 153 = .ok (.pop, 1) := dk_87 (dk_at dksX3_read_6 11 rfl rfl)
theorem dX3_read_154 : decode cX3_read 154 = .ok (.aload_n 0, 1) := dk_42 (dk_at dksX3_read_6 12 rfl rfl)
theorem dX3_read_155 : decode cX3_read 155 = .ok (.bipush 59, 2) := dk_16 59 (dk_at dksX3_read_6 13 rfl rfl)
theorem dX3_read_157 : decode cX3_read 157 = .ok (.invokevirtual 111, 3) := dk_182 0 111 (dk_at dksX3_read_6 15 rfl rfl)
theorem dX3_read_160 : decode cX3_read 160 = .ok (.aload_n 1, 1) := dk_43 (dk_at dksX3_read_6 18 rfl rfl)
theorem dX3_read_161 : decode cX3_read 161 = .ok (.dup, 1) := dk_89 (dk_at dksX3_read_6 19 rfl rfl)
theorem dX3_read_162 : decode cX3_read 162 = .ok (.getfield 90, 3) := dk_180 0 90 (dk_at dksX3_read_6 20 rfl rfl)
theorem dX3_read_165 : decode cX3_read 165 = .ok (.iconst 1, 1) := dk_4 (dk_at dksX3_read_6 23 rfl rfl)
theorem dX3_read_166 : decode cX3_read 166 = .ok (.iadd, 1) := dk_96 (dk_at dksX3_read_7 0 rfl rfl)
theorem dX3_read_167 : decode cX3_read 167 = .ok (.putfield 90, 3) := dk_181 0 90 (dk_at dksX3_read_7 1 rfl rfl)
theorem dX3_read_170 : decode cX3_read 170 = .ok (.goto (-158), 3) := dk_167 255 98 (dk_at dksX3_read_7 4 rfl rfl)
theorem dX3_read_173 : decode cX3_read 173 = .ok (.aload_n 1, 1) := dk_43 (dk_at dksX3_read_7 7 rfl rfl)
theorem dX3_read_174 : decode cX3_read 174 = .ok (.areturn, 1) := dk_176 (dk_at dksX3_read_7 8 rfl rfl)
abbrev cX3_next : ByteArray := prog_17_method_4_code
def yX3_next : MethodName := ⟨RX3, "next", "()V"⟩
def dkwX3_next_17 : List UInt8 := [4, 96, 181, 0, 19, 177]
abbrev dktX3_next_17 : List UInt8 := dkwX3_next_17 ++ []
def dkwX3_next_16 : List UInt8 := [42, 27, 16, 60, 160, 0, 9, 17, 1, 47, 167, 0, 6, 17, 1, 48, 181, 0, 25, 42, 89, 180, 0, 19]
abbrev dktX3_next_16 : List UInt8 := dkwX3_next_16 ++ dktX3_next_17
def dkwX3_next_15 : List UInt8 := [180, 0, 19, 42, 180, 0, 15, 162, 0, 46, 42, 180, 0, 9, 42, 180, 0, 19, 51, 16, 61, 160, 0, 32]
abbrev dktX3_next_15 : List UInt8 := dkwX3_next_15 ++ dktX3_next_16
def dkwX3_next_14 : List UInt8 := [42, 27, 181, 0, 25, 132, 2, 1, 167, 255, 229, 27, 16, 60, 159, 0, 9, 27, 16, 62, 160, 0, 57, 42]
abbrev dktX3_next_14 : List UInt8 := dkwX3_next_14 ++ dktX3_next_15
def dkwX3_next_13 : List UInt8 := [181, 0, 25, 3, 61, 28, 18, 53, 182, 0, 55, 162, 0, 24, 18, 53, 28, 182, 0, 61, 27, 160, 0, 8]
abbrev dktX3_next_13 : List UInt8 := dkwX3_next_13 ++ dktX3_next_14
def dkwX3_next_12 : List UInt8 := [42, 180, 0, 9, 42, 180, 0, 19, 51, 60, 42, 89, 180, 0, 19, 4, 96, 181, 0, 19, 42, 17, 1, 46]
abbrev dktX3_next_12 : List UInt8 := dkwX3_next_12 ++ dktX3_next_13
def dkwX3_next_11 : List UInt8 := [51, 96, 16, 48, 100, 184, 0, 47, 181, 0, 43, 42, 89, 180, 0, 19, 4, 96, 181, 0, 19, 167, 255, 191]
abbrev dktX3_next_11 : List UInt8 := dkwX3_next_11 ++ dktX3_next_12
def dkwX3_next_10 : List UInt8 := [184, 0, 40, 153, 0, 170, 42, 18, 46, 16, 10, 42, 180, 0, 43, 104, 42, 180, 0, 9, 42, 180, 0, 19]
abbrev dktX3_next_10 : List UInt8 := dkwX3_next_10 ++ dktX3_next_11
def dkwX3_next_9 : List UInt8 := [181, 0, 43, 42, 180, 0, 19, 42, 180, 0, 15, 162, 0, 185, 42, 180, 0, 9, 42, 180, 0, 19, 51]
abbrev dktX3_next_9 : List UInt8 := dkwX3_next_9 ++ dktX3_next_10
def dkwX3_next_8 : List UInt8 := [42, 180, 0, 9, 42, 180, 0, 19, 51, 184, 0, 40, 153, 0, 83, 42, 17, 1, 44, 181, 0, 25, 42, 3]
abbrev dktX3_next_8 : List UInt8 := dkwX3_next_8 ++ dktX3_next_9
def dkwX3_next_7 : List UInt8 := [182, 0, 36, 153, 0, 12, 42, 17, 0, 200, 27, 96, 181, 0, 25, 132, 1, 1, 167, 255, 224, 167, 0, 223]
abbrev dktX3_next_7 : List UInt8 := dkwX3_next_7 ++ dktX3_next_8
def dkwX3_next_6 : List UInt8 := [17, 1, 46, 181, 0, 25, 3, 60, 27, 178, 0, 32, 190, 162, 0, 30, 42, 178, 0, 32, 27, 50]
abbrev dktX3_next_6 : List UInt8 := dkwX3_next_6 ++ dktX3_next_7
def dkwX3_next_5 : List UInt8 := [180, 0, 19, 51, 184, 0, 28, 153, 0, 16, 42, 89, 180, 0, 19, 4, 96, 181, 0, 19, 167, 255, 220, 42]
abbrev dktX3_next_5 : List UInt8 := dkwX3_next_5 ++ dktX3_next_6
def dkwX3_next_4 : List UInt8 := [184, 0, 28, 153, 0, 89, 42, 180, 0, 19, 42, 180, 0, 15, 162, 0, 31, 42, 180, 0, 9, 42]
abbrev dktX3_next_4 : List UInt8 := dkwX3_next_4 ++ dktX3_next_5
def dkwX3_next_3 : List UInt8 := [160, 0, 13, 42, 17, 1, 45, 181, 0, 25, 167, 1, 68, 42, 180, 0, 9, 42, 180, 0, 19, 51]
abbrev dktX3_next_3 : List UInt8 := dkwX3_next_3 ++ dktX3_next_4
def dkwX3_next_2 : List UInt8 := [181, 0, 19, 167, 255, 207, 42, 42, 180, 0, 19, 181, 0, 22, 42, 180, 0, 19, 42, 180, 0, 15]
abbrev dktX3_next_2 : List UInt8 := dkwX3_next_2 ++ dktX3_next_3
def dkwX3_next_1 : List UInt8 := [159, 0, 17, 42, 180, 0, 9, 42, 180, 0, 19, 51, 16, 10, 160, 0, 16, 42, 89, 180, 0, 19, 4, 96]
abbrev dktX3_next_1 : List UInt8 := dkwX3_next_1 ++ dktX3_next_2
def dkwX3_next_0 : List UInt8 := [42, 180, 0, 19, 42, 180, 0, 15, 162, 0, 44, 42, 180, 0, 9, 42, 180, 0, 19, 51, 16, 32]
abbrev dktX3_next_0 : List UInt8 := dkwX3_next_0 ++ dktX3_next_1
theorem dksX3_next_0 : cX3_next.data.toList.drop 0 = dktX3_next_0 := by decide +kernel
theorem dksX3_next_1 : cX3_next.data.toList.drop 22 = dktX3_next_1 := dk_seg dksX3_next_0 22 rfl rfl
theorem dksX3_next_2 : cX3_next.data.toList.drop 46 = dktX3_next_2 := dk_seg dksX3_next_1 24 rfl rfl
theorem dksX3_next_3 : cX3_next.data.toList.drop 68 = dktX3_next_3 := dk_seg dksX3_next_2 22 rfl rfl
theorem dksX3_next_4 : cX3_next.data.toList.drop 90 = dktX3_next_4 := dk_seg dksX3_next_3 22 rfl rfl
theorem dksX3_next_5 : cX3_next.data.toList.drop 112 = dktX3_next_5 := dk_seg dksX3_next_4 22 rfl rfl
theorem dksX3_next_6 : cX3_next.data.toList.drop 136 = dktX3_next_6 := dk_seg dksX3_next_5 24 rfl rfl
theorem dksX3_next_7 : cX3_next.data.toList.drop 158 = dktX3_next_7 := dk_seg dksX3_next_6 22 rfl rfl
theorem dksX3_next_8 : cX3_next.data.toList.drop 182 = dktX3_next_8 := dk_seg dksX3_next_7 24 rfl rfl
theorem dksX3_next_9 : cX3_next.data.toList.drop 206 = dktX3_next_9 := dk_seg dksX3_next_8 24 rfl rfl
theorem dksX3_next_10 : cX3_next.data.toList.drop 229 = dktX3_next_10 := dk_seg dksX3_next_9 23 rfl rfl
theorem dksX3_next_11 : cX3_next.data.toList.drop 253 = dktX3_next_11 := dk_seg dksX3_next_10 24 rfl rfl
theorem dksX3_next_12 : cX3_next.data.toList.drop 277 = dktX3_next_12 := dk_seg dksX3_next_11 24 rfl rfl
theorem dksX3_next_13 : cX3_next.data.toList.drop 301 = dktX3_next_13 := dk_seg dksX3_next_12 24 rfl rfl
theorem dksX3_next_14 : cX3_next.data.toList.drop 325 = dktX3_next_14 := dk_seg dksX3_next_13 24 rfl rfl
theorem dksX3_next_15 : cX3_next.data.toList.drop 349 = dktX3_next_15 := dk_seg dksX3_next_14 24 rfl rfl
theorem dksX3_next_16 : cX3_next.data.toList.drop 373 = dktX3_next_16 := dk_seg dksX3_next_15 24 rfl rfl
theorem dksX3_next_17 : cX3_next.data.toList.drop 397 = dktX3_next_17 := dk_seg dksX3_next_16 24 rfl rfl
theorem dX3_next_0 : decode cX3_next 0 = .ok (.aload_n 0, 1) := dk_42 (dk_at dksX3_next_0 0 rfl rfl)
theorem dX3_next_1 : decode cX3_next 1 = .ok (.getfield 19, 3) := dk_180 0 19 (dk_at dksX3_next_0 1 rfl rfl)
theorem dX3_next_4 : decode cX3_next 4 = .ok (.aload_n 0, 1) := dk_42 (dk_at dksX3_next_0 4 rfl rfl)
theorem dX3_next_5 : decode cX3_next 5 = .ok (.getfield 15, 3) := dk_180 0 15 (dk_at dksX3_next_0 5 rfl rfl)
theorem dX3_next_8 : decode cX3_next 8 = .ok (.if_icmp .ge 44, 3) := dk_162 0 44 (dk_at dksX3_next_0 8 rfl rfl)
theorem dX3_next_11 : decode cX3_next 11 = .ok (.aload_n 0, 1) := dk_42 (dk_at dksX3_next_0 11 rfl rfl)
theorem dX3_next_12 : decode cX3_next 12 = .ok (.getfield 9, 3) := dk_180 0 9 (dk_at dksX3_next_0 12 rfl rfl)
theorem dX3_next_15 : decode cX3_next 15 = .ok (.aload_n 0, 1) := dk_42 (dk_at dksX3_next_0 15 rfl rfl)
theorem dX3_next_16 : decode cX3_next 16 = .ok (.getfield 19, 3) := dk_180 0 19 (dk_at dksX3_next_0 16 rfl rfl)
theorem dX3_next_19 : decode cX3_next 19 = .ok (.baload, 1) := dk_51 (dk_at dksX3_next_0 19 rfl rfl)
theorem dX3_next_20 : decode cX3_next 20 = .ok (.bipush 32, 2) := dk_16 32 (dk_at dksX3_next_0 20 rfl rfl)
theorem dX3_next_22 : decode cX3_next 22 = .ok (.if_icmp .eq 17, 3) := dk_159 0 17 (dk_at dksX3_next_1 0 rfl rfl)
theorem dX3_next_25 : decode cX3_next 25 = .ok (.aload_n 0, 1) := dk_42 (dk_at dksX3_next_1 3 rfl rfl)
theorem dX3_next_26 : decode cX3_next 26 = .ok (.getfield 9, 3) := dk_180 0 9 (dk_at dksX3_next_1 4 rfl rfl)
theorem dX3_next_29 : decode cX3_next 29 = .ok (.aload_n 0, 1) := dk_42 (dk_at dksX3_next_1 7 rfl rfl)
theorem dX3_next_30 : decode cX3_next 30 = .ok (.getfield 19, 3) := dk_180 0 19 (dk_at dksX3_next_1 8 rfl rfl)
theorem dX3_next_33 : decode cX3_next 33 = .ok (.baload, 1) := dk_51 (dk_at dksX3_next_1 11 rfl rfl)
theorem dX3_next_34 : decode cX3_next 34 = .ok (.bipush 10, 2) := dk_16 10 (dk_at dksX3_next_1 12 rfl rfl)
theorem dX3_next_36 : decode cX3_next 36 = .ok (.if_icmp .ne 16, 3) := dk_160 0 16 (dk_at dksX3_next_1 14 rfl rfl)
theorem dX3_next_39 : decode cX3_next 39 = .ok (.aload_n 0, 1) := dk_42 (dk_at dksX3_next_1 17 rfl rfl)
theorem dX3_next_40 : decode cX3_next 40 = .ok (.dup, 1) := dk_89 (dk_at dksX3_next_1 18 rfl rfl)
theorem dX3_next_41 : decode cX3_next 41 = .ok (.getfield 19, 3) := dk_180 0 19 (dk_at dksX3_next_1 19 rfl rfl)
theorem dX3_next_44 : decode cX3_next 44 = .ok (.iconst 1, 1) := dk_4 (dk_at dksX3_next_1 22 rfl rfl)
theorem dX3_next_45 : decode cX3_next 45 = .ok (.iadd, 1) := dk_96 (dk_at dksX3_next_1 23 rfl rfl)
theorem dX3_next_46 : decode cX3_next 46 = .ok (.putfield 19, 3) := dk_181 0 19 (dk_at dksX3_next_2 0 rfl rfl)
theorem dX3_next_49 : decode cX3_next 49 = .ok (.goto (-49), 3) := dk_167 255 207 (dk_at dksX3_next_2 3 rfl rfl)
theorem dX3_next_52 : decode cX3_next 52 = .ok (.aload_n 0, 1) := dk_42 (dk_at dksX3_next_2 6 rfl rfl)
theorem dX3_next_53 : decode cX3_next 53 = .ok (.aload_n 0, 1) := dk_42 (dk_at dksX3_next_2 7 rfl rfl)
theorem dX3_next_54 : decode cX3_next 54 = .ok (.getfield 19, 3) := dk_180 0 19 (dk_at dksX3_next_2 8 rfl rfl)
theorem dX3_next_57 : decode cX3_next 57 = .ok (.putfield 22, 3) := dk_181 0 22 (dk_at dksX3_next_2 11 rfl rfl)
theorem dX3_next_60 : decode cX3_next 60 = .ok (.aload_n 0, 1) := dk_42 (dk_at dksX3_next_2 14 rfl rfl)
theorem dX3_next_61 : decode cX3_next 61 = .ok (.getfield 19, 3) := dk_180 0 19 (dk_at dksX3_next_2 15 rfl rfl)
theorem dX3_next_64 : decode cX3_next 64 = .ok (.aload_n 0, 1) := dk_42 (dk_at dksX3_next_2 18 rfl rfl)
theorem dX3_next_65 : decode cX3_next 65 = .ok (.getfield 15, 3) := dk_180 0 15 (dk_at dksX3_next_2 19 rfl rfl)
theorem dX3_next_68 : decode cX3_next 68 = .ok (.if_icmp .ne 13, 3) := dk_160 0 13 (dk_at dksX3_next_3 0 rfl rfl)
theorem dX3_next_71 : decode cX3_next 71 = .ok (.aload_n 0, 1) := dk_42 (dk_at dksX3_next_3 3 rfl rfl)
theorem dX3_next_72 : decode cX3_next 72 = .ok (.sipush 301, 3) := dk_17 1 45 (dk_at dksX3_next_3 4 rfl rfl)
theorem dX3_next_75 : decode cX3_next 75 = .ok (.putfield 25, 3) := dk_181 0 25 (dk_at dksX3_next_3 7 rfl rfl)
theorem dX3_next_78 : decode cX3_next 78 = .ok (.goto 324, 3) := dk_167 1 68 (dk_at dksX3_next_3 10 rfl rfl)
theorem dX3_next_81 : decode cX3_next 81 = .ok (.aload_n 0, 1) := dk_42 (dk_at dksX3_next_3 13 rfl rfl)
theorem dX3_next_82 : decode cX3_next 82 = .ok (.getfield 9, 3) := dk_180 0 9 (dk_at dksX3_next_3 14 rfl rfl)
theorem dX3_next_85 : decode cX3_next 85 = .ok (.aload_n 0, 1) := dk_42 (dk_at dksX3_next_3 17 rfl rfl)
theorem dX3_next_86 : decode cX3_next 86 = .ok (.getfield 19, 3) := dk_180 0 19 (dk_at dksX3_next_3 18 rfl rfl)
theorem dX3_next_89 : decode cX3_next 89 = .ok (.baload, 1) := dk_51 (dk_at dksX3_next_3 21 rfl rfl)
theorem dX3_next_90 : decode cX3_next 90 = .ok (.invokestatic 28, 3) := dk_184 0 28 (dk_at dksX3_next_4 0 rfl rfl)
theorem dX3_next_93 : decode cX3_next 93 = .ok (.ifCond .eq 89, 3) := dk_153 0 89 (dk_at dksX3_next_4 3 rfl rfl)
theorem dX3_next_96 : decode cX3_next 96 = .ok (.aload_n 0, 1) := dk_42 (dk_at dksX3_next_4 6 rfl rfl)
theorem dX3_next_97 : decode cX3_next 97 = .ok (.getfield 19, 3) := dk_180 0 19 (dk_at dksX3_next_4 7 rfl rfl)
theorem dX3_next_100 : decode cX3_next 100 = .ok (.aload_n 0, 1) := dk_42 (dk_at dksX3_next_4 10 rfl rfl)
theorem dX3_next_101 : decode cX3_next 101 = .ok (.getfield 15, 3) := dk_180 0 15 (dk_at dksX3_next_4 11 rfl rfl)
theorem dX3_next_104 : decode cX3_next 104 = .ok (.if_icmp .ge 31, 3) := dk_162 0 31 (dk_at dksX3_next_4 14 rfl rfl)
theorem dX3_next_107 : decode cX3_next 107 = .ok (.aload_n 0, 1) := dk_42 (dk_at dksX3_next_4 17 rfl rfl)
theorem dX3_next_108 : decode cX3_next 108 = .ok (.getfield 9, 3) := dk_180 0 9 (dk_at dksX3_next_4 18 rfl rfl)
theorem dX3_next_111 : decode cX3_next 111 = .ok (.aload_n 0, 1) := dk_42 (dk_at dksX3_next_4 21 rfl rfl)
theorem dX3_next_112 : decode cX3_next 112 = .ok (.getfield 19, 3) := dk_180 0 19 (dk_at dksX3_next_5 0 rfl rfl)
theorem dX3_next_115 : decode cX3_next 115 = .ok (.baload, 1) := dk_51 (dk_at dksX3_next_5 3 rfl rfl)
theorem dX3_next_116 : decode cX3_next 116 = .ok (.invokestatic 28, 3) := dk_184 0 28 (dk_at dksX3_next_5 4 rfl rfl)
theorem dX3_next_119 : decode cX3_next 119 = .ok (.ifCond .eq 16, 3) := dk_153 0 16 (dk_at dksX3_next_5 7 rfl rfl)
theorem dX3_next_122 : decode cX3_next 122 = .ok (.aload_n 0, 1) := dk_42 (dk_at dksX3_next_5 10 rfl rfl)
theorem dX3_next_123 : decode cX3_next 123 = .ok (.dup, 1) := dk_89 (dk_at dksX3_next_5 11 rfl rfl)
theorem dX3_next_124 : decode cX3_next 124 = .ok (.getfield 19, 3) := dk_180 0 19 (dk_at dksX3_next_5 12 rfl rfl)
theorem dX3_next_127 : decode cX3_next 127 = .ok (.iconst 1, 1) := dk_4 (dk_at dksX3_next_5 15 rfl rfl)
theorem dX3_next_128 : decode cX3_next 128 = .ok (.iadd, 1) := dk_96 (dk_at dksX3_next_5 16 rfl rfl)
theorem dX3_next_129 : decode cX3_next 129 = .ok (.putfield 19, 3) := dk_181 0 19 (dk_at dksX3_next_5 17 rfl rfl)
theorem dX3_next_132 : decode cX3_next 132 = .ok (.goto (-36), 3) := dk_167 255 220 (dk_at dksX3_next_5 20 rfl rfl)
theorem dX3_next_135 : decode cX3_next 135 = .ok (.aload_n 0, 1) := dk_42 (dk_at dksX3_next_5 23 rfl rfl)
theorem dX3_next_136 : decode cX3_next 136 = .ok (.sipush 302, 3) := dk_17 1 46 (dk_at dksX3_next_6 0 rfl rfl)
theorem dX3_next_139 : decode cX3_next 139 = .ok (.putfield 25, 3) := dk_181 0 25 (dk_at dksX3_next_6 3 rfl rfl)
theorem dX3_next_142 : decode cX3_next 142 = .ok (.iconst 0, 1) := dk_3 (dk_at dksX3_next_6 6 rfl rfl)
theorem dX3_next_143 : decode cX3_next 143 = .ok (.istore_n 1, 1) := dk_60 (dk_at dksX3_next_6 7 rfl rfl)
theorem dX3_next_144 : decode cX3_next 144 = .ok (.iload_n 1, 1) := dk_27 (dk_at dksX3_next_6 8 rfl rfl)
theorem dX3_next_145 : decode cX3_next 145 = .ok (.getstatic 32, 3) := dk_178 0 32 (dk_at dksX3_next_6 9 rfl rfl)
theorem dX3_next_148 : decode cX3_next 148 = .ok (.arraylength, 1) := dk_190 (dk_at dksX3_next_6 12 rfl rfl)
theorem dX3_next_149 : decode cX3_next 149 = .ok (.if_icmp .ge 30, 3) := dk_162 0 30 (dk_at dksX3_next_6 13 rfl rfl)
theorem dX3_next_152 : decode cX3_next 152 = .ok (.aload_n 0, 1) := dk_42 (dk_at dksX3_next_6 16 rfl rfl)
theorem dX3_next_153 : decode cX3_next 153 = .ok (.getstatic 32, 3) := dk_178 0 32 (dk_at dksX3_next_6 17 rfl rfl)
theorem dX3_next_156 : decode cX3_next 156 = .ok (.iload_n 1, 1) := dk_27 (dk_at dksX3_next_6 20 rfl rfl)
theorem dX3_next_157 : decode cX3_next 157 = .ok (.aaload, 1) := dk_50 (dk_at dksX3_next_6 21 rfl rfl)
theorem dX3_next_158 : decode cX3_next 158 = .ok (.invokevirtual 36, 3) := dk_182 0 36 (dk_at dksX3_next_7 0 rfl rfl)
theorem dX3_next_161 : decode cX3_next 161 = .ok (.ifCond .eq 12, 3) := dk_153 0 12 (dk_at dksX3_next_7 3 rfl rfl)
theorem dX3_next_164 : decode cX3_next 164 = .ok (.aload_n 0, 1) := dk_42 (dk_at dksX3_next_7 6 rfl rfl)
theorem dX3_next_165 : decode cX3_next 165 = .ok (.sipush 200, 3) := dk_17 0 200 (dk_at dksX3_next_7 7 rfl rfl)
theorem dX3_next_168 : decode cX3_next 168 = .ok (.iload_n 1, 1) := dk_27 (dk_at dksX3_next_7 10 rfl rfl)
theorem dX3_next_169 : decode cX3_next 169 = .ok (.iadd, 1) := dk_96 (dk_at dksX3_next_7 11 rfl rfl)
theorem dX3_next_170 : decode cX3_next 170 = .ok (.putfield 25, 3) := dk_181 0 25 (dk_at dksX3_next_7 12 rfl rfl)
theorem dX3_next_173 : decode cX3_next 173 = .ok (.iinc 1 1, 3) := dk_132 1 1 (dk_at dksX3_next_7 15 rfl rfl)
theorem dX3_next_176 : decode cX3_next 176 = .ok (.goto (-32), 3) := dk_167 255 224 (dk_at dksX3_next_7 18 rfl rfl)
theorem dX3_next_179 : decode cX3_next 179 = .ok (.goto 223, 3) := dk_167 0 223 (dk_at dksX3_next_7 21 rfl rfl)
theorem dX3_next_182 : decode cX3_next 182 = .ok (.aload_n 0, 1) := dk_42 (dk_at dksX3_next_8 0 rfl rfl)
theorem dX3_next_183 : decode cX3_next 183 = .ok (.getfield 9, 3) := dk_180 0 9 (dk_at dksX3_next_8 1 rfl rfl)
theorem dX3_next_186 : decode cX3_next 186 = .ok (.aload_n 0, 1) := dk_42 (dk_at dksX3_next_8 4 rfl rfl)
theorem dX3_next_187 : decode cX3_next 187 = .ok (.getfield 19, 3) := dk_180 0 19 (dk_at dksX3_next_8 5 rfl rfl)
theorem dX3_next_190 : decode cX3_next 190 = .ok (.baload, 1) := dk_51 (dk_at dksX3_next_8 8 rfl rfl)
theorem dX3_next_191 : decode cX3_next 191 = .ok (.invokestatic 40, 3) := dk_184 0 40 (dk_at dksX3_next_8 9 rfl rfl)
theorem dX3_next_194 : decode cX3_next 194 = .ok (.ifCond .eq 83, 3) := dk_153 0 83 (dk_at dksX3_next_8 12 rfl rfl)
theorem dX3_next_197 : decode cX3_next 197 = .ok (.aload_n 0, 1) := dk_42 (dk_at dksX3_next_8 15 rfl rfl)
theorem dX3_next_198 : decode cX3_next 198 = .ok (.sipush 300, 3) := dk_17 1 44 (dk_at dksX3_next_8 16 rfl rfl)
theorem dX3_next_201 : decode cX3_next 201 = .ok (.putfield 25, 3) := dk_181 0 25 (dk_at dksX3_next_8 19 rfl rfl)
theorem dX3_next_204 : decode cX3_next 204 = .ok (.aload_n 0, 1) := dk_42 (dk_at dksX3_next_8 22 rfl rfl)
theorem dX3_next_205 : decode cX3_next 205 = .ok (.iconst 0, 1) := dk_3 (dk_at dksX3_next_8 23 rfl rfl)
theorem dX3_next_206 : decode cX3_next 206 = .ok (.putfield 43, 3) := dk_181 0 43 (dk_at dksX3_next_9 0 rfl rfl)
theorem dX3_next_209 : decode cX3_next 209 = .ok (.aload_n 0, 1) := dk_42 (dk_at dksX3_next_9 3 rfl rfl)
theorem dX3_next_210 : decode cX3_next 210 = .ok (.getfield 19, 3) := dk_180 0 19 (dk_at dksX3_next_9 4 rfl rfl)
theorem dX3_next_213 : decode cX3_next 213 = .ok (.aload_n 0, 1) := dk_42 (dk_at dksX3_next_9 7 rfl rfl)
theorem dX3_next_214 : decode cX3_next 214 = .ok (.getfield 15, 3) := dk_180 0 15 (dk_at dksX3_next_9 8 rfl rfl)
theorem dX3_next_217 : decode cX3_next 217 = .ok (.if_icmp .ge 185, 3) := dk_162 0 185 (dk_at dksX3_next_9 11 rfl rfl)
theorem dX3_next_220 : decode cX3_next 220 = .ok (.aload_n 0, 1) := dk_42 (dk_at dksX3_next_9 14 rfl rfl)
theorem dX3_next_221 : decode cX3_next 221 = .ok (.getfield 9, 3) := dk_180 0 9 (dk_at dksX3_next_9 15 rfl rfl)
theorem dX3_next_224 : decode cX3_next 224 = .ok (.aload_n 0, 1) := dk_42 (dk_at dksX3_next_9 18 rfl rfl)
theorem dX3_next_225 : decode cX3_next 225 = .ok (.getfield 19, 3) := dk_180 0 19 (dk_at dksX3_next_9 19 rfl rfl)
theorem dX3_next_228 : decode cX3_next 228 = .ok (.baload, 1) := dk_51 (dk_at dksX3_next_9 22 rfl rfl)
theorem dX3_next_229 : decode cX3_next 229 = .ok (.invokestatic 40, 3) := dk_184 0 40 (dk_at dksX3_next_10 0 rfl rfl)
theorem dX3_next_232 : decode cX3_next 232 = .ok (.ifCond .eq 170, 3) := dk_153 0 170 (dk_at dksX3_next_10 3 rfl rfl)
theorem dX3_next_235 : decode cX3_next 235 = .ok (.aload_n 0, 1) := dk_42 (dk_at dksX3_next_10 6 rfl rfl)
theorem dX3_next_236 : decode cX3_next 236 = .ok (.ldc 46, 2) := dk_18 46 (dk_at dksX3_next_10 7 rfl rfl)
theorem dX3_next_238 : decode cX3_next 238 = .ok (.bipush 10, 2) := dk_16 10 (dk_at dksX3_next_10 9 rfl rfl)
theorem dX3_next_240 : decode cX3_next 240 = .ok (.aload_n 0, 1) := dk_42 (dk_at dksX3_next_10 11 rfl rfl)
theorem dX3_next_241 : decode cX3_next 241 = .ok (.getfield 43, 3) := dk_180 0 43 (dk_at dksX3_next_10 12 rfl rfl)
theorem dX3_next_244 : decode cX3_next 244 = .ok (.imul, 1) := dk_104 (dk_at dksX3_next_10 15 rfl rfl)
theorem dX3_next_245 : decode cX3_next 245 = .ok (.aload_n 0, 1) := dk_42 (dk_at dksX3_next_10 16 rfl rfl)
theorem dX3_next_246 : decode cX3_next 246 = .ok (.getfield 9, 3) := dk_180 0 9 (dk_at dksX3_next_10 17 rfl rfl)
theorem dX3_next_249 : decode cX3_next 249 = .ok (.aload_n 0, 1) := dk_42 (dk_at dksX3_next_10 20 rfl rfl)
theorem dX3_next_250 : decode cX3_next 250 = .ok (.getfield 19, 3) := dk_180 0 19 (dk_at dksX3_next_10 21 rfl rfl)
theorem dX3_next_253 : decode cX3_next 253 = .ok (.baload, 1) := dk_51 (dk_at dksX3_next_11 0 rfl rfl)
theorem dX3_next_254 : decode cX3_next 254 = .ok (.iadd, 1) := dk_96 (dk_at dksX3_next_11 1 rfl rfl)
theorem dX3_next_255 : decode cX3_next 255 = .ok (.bipush 48, 2) := dk_16 48 (dk_at dksX3_next_11 2 rfl rfl)
theorem dX3_next_257 : decode cX3_next 257 = .ok (.isub, 1) := dk_100 (dk_at dksX3_next_11 4 rfl rfl)
theorem dX3_next_258 : decode cX3_next 258 = .ok (.invokestatic 47, 3) := dk_184 0 47 (dk_at dksX3_next_11 5 rfl rfl)
theorem dX3_next_261 : decode cX3_next 261 = .ok (.putfield 43, 3) := dk_181 0 43 (dk_at dksX3_next_11 8 rfl rfl)
theorem dX3_next_264 : decode cX3_next 264 = .ok (.aload_n 0, 1) := dk_42 (dk_at dksX3_next_11 11 rfl rfl)
theorem dX3_next_265 : decode cX3_next 265 = .ok (.dup, 1) := dk_89 (dk_at dksX3_next_11 12 rfl rfl)
theorem dX3_next_266 : decode cX3_next 266 = .ok (.getfield 19, 3) := dk_180 0 19 (dk_at dksX3_next_11 13 rfl rfl)
theorem dX3_next_269 : decode cX3_next 269 = .ok (.iconst 1, 1) := dk_4 (dk_at dksX3_next_11 16 rfl rfl)
theorem dX3_next_270 : decode cX3_next 270 = .ok (.iadd, 1) := dk_96 (dk_at dksX3_next_11 17 rfl rfl)
theorem dX3_next_271 : decode cX3_next 271 = .ok (.putfield 19, 3) := dk_181 0 19 (dk_at dksX3_next_11 18 rfl rfl)
theorem dX3_next_274 : decode cX3_next 274 = .ok (.goto (-65), 3) := dk_167 255 191 (dk_at dksX3_next_11 21 rfl rfl)
theorem dX3_next_277 : decode cX3_next 277 = .ok (.aload_n 0, 1) := dk_42 (dk_at dksX3_next_12 0 rfl rfl)
theorem dX3_next_278 : decode cX3_next 278 = .ok (.getfield 9, 3) := dk_180 0 9 (dk_at dksX3_next_12 1 rfl rfl)
theorem dX3_next_281 : decode cX3_next 281 = .ok (.aload_n 0, 1) := dk_42 (dk_at dksX3_next_12 4 rfl rfl)
theorem dX3_next_282 : decode cX3_next 282 = .ok (.getfield 19, 3) := dk_180 0 19 (dk_at dksX3_next_12 5 rfl rfl)
theorem dX3_next_285 : decode cX3_next 285 = .ok (.baload, 1) := dk_51 (dk_at dksX3_next_12 8 rfl rfl)
theorem dX3_next_286 : decode cX3_next 286 = .ok (.istore_n 1, 1) := dk_60 (dk_at dksX3_next_12 9 rfl rfl)
theorem dX3_next_287 : decode cX3_next 287 = .ok (.aload_n 0, 1) := dk_42 (dk_at dksX3_next_12 10 rfl rfl)
theorem dX3_next_288 : decode cX3_next 288 = .ok (.dup, 1) := dk_89 (dk_at dksX3_next_12 11 rfl rfl)
theorem dX3_next_289 : decode cX3_next 289 = .ok (.getfield 19, 3) := dk_180 0 19 (dk_at dksX3_next_12 12 rfl rfl)
theorem dX3_next_292 : decode cX3_next 292 = .ok (.iconst 1, 1) := dk_4 (dk_at dksX3_next_12 15 rfl rfl)
theorem dX3_next_293 : decode cX3_next 293 = .ok (.iadd, 1) := dk_96 (dk_at dksX3_next_12 16 rfl rfl)
theorem dX3_next_294 : decode cX3_next 294 = .ok (.putfield 19, 3) := dk_181 0 19 (dk_at dksX3_next_12 17 rfl rfl)
theorem dX3_next_297 : decode cX3_next 297 = .ok (.aload_n 0, 1) := dk_42 (dk_at dksX3_next_12 20 rfl rfl)
theorem dX3_next_298 : decode cX3_next 298 = .ok (.sipush 302, 3) := dk_17 1 46 (dk_at dksX3_next_12 21 rfl rfl)
theorem dX3_next_301 : decode cX3_next 301 = .ok (.putfield 25, 3) := dk_181 0 25 (dk_at dksX3_next_13 0 rfl rfl)
theorem dX3_next_304 : decode cX3_next 304 = .ok (.iconst 0, 1) := dk_3 (dk_at dksX3_next_13 3 rfl rfl)
theorem dX3_next_305 : decode cX3_next 305 = .ok (.istore_n 2, 1) := dk_61 (dk_at dksX3_next_13 4 rfl rfl)
theorem dX3_next_306 : decode cX3_next 306 = .ok (.iload_n 2, 1) := dk_28 (dk_at dksX3_next_13 5 rfl rfl)
theorem dX3_next_307 : decode cX3_next 307 = .ok (.ldc 53, 2) := dk_18 53 (dk_at dksX3_next_13 6 rfl rfl)
theorem dX3_next_309 : decode cX3_next 309 = .ok (.invokevirtual 55, 3) := dk_182 0 55 (dk_at dksX3_next_13 8 rfl rfl)
theorem dX3_next_312 : decode cX3_next 312 = .ok (.if_icmp .ge 24, 3) := dk_162 0 24 (dk_at dksX3_next_13 11 rfl rfl)
theorem dX3_next_315 : decode cX3_next 315 = .ok (.ldc 53, 2) := dk_18 53 (dk_at dksX3_next_13 14 rfl rfl)
theorem dX3_next_317 : decode cX3_next 317 = .ok (.iload_n 2, 1) := dk_28 (dk_at dksX3_next_13 16 rfl rfl)
theorem dX3_next_318 : decode cX3_next 318 = .ok (.invokevirtual 61, 3) := dk_182 0 61 (dk_at dksX3_next_13 17 rfl rfl)
theorem dX3_next_321 : decode cX3_next 321 = .ok (.iload_n 1, 1) := dk_27 (dk_at dksX3_next_13 20 rfl rfl)
theorem dX3_next_322 : decode cX3_next 322 = .ok (.if_icmp .ne 8, 3) := dk_160 0 8 (dk_at dksX3_next_13 21 rfl rfl)
theorem dX3_next_325 : decode cX3_next 325 = .ok (.aload_n 0, 1) := dk_42 (dk_at dksX3_next_14 0 rfl rfl)
theorem dX3_next_326 : decode cX3_next 326 = .ok (.iload_n 1, 1) := dk_27 (dk_at dksX3_next_14 1 rfl rfl)
theorem dX3_next_327 : decode cX3_next 327 = .ok (.putfield 25, 3) := dk_181 0 25 (dk_at dksX3_next_14 2 rfl rfl)
theorem dX3_next_330 : decode cX3_next 330 = .ok (.iinc 2 1, 3) := dk_132 2 1 (dk_at dksX3_next_14 5 rfl rfl)
theorem dX3_next_333 : decode cX3_next 333 = .ok (.goto (-27), 3) := dk_167 255 229 (dk_at dksX3_next_14 8 rfl rfl)
theorem dX3_next_336 : decode cX3_next 336 = .ok (.iload_n 1, 1) := dk_27 (dk_at dksX3_next_14 11 rfl rfl)
theorem dX3_next_337 : decode cX3_next 337 = .ok (.bipush 60, 2) := dk_16 60 (dk_at dksX3_next_14 12 rfl rfl)
theorem dX3_next_339 : decode cX3_next 339 = .ok (.if_icmp .eq 9, 3) := dk_159 0 9 (dk_at dksX3_next_14 14 rfl rfl)
theorem dX3_next_342 : decode cX3_next 342 = .ok (.iload_n 1, 1) := dk_27 (dk_at dksX3_next_14 17 rfl rfl)
theorem dX3_next_343 : decode cX3_next 343 = .ok (.bipush 62, 2) := dk_16 62 (dk_at dksX3_next_14 18 rfl rfl)
theorem dX3_next_345 : decode cX3_next 345 = .ok (.if_icmp .ne 57, 3) := dk_160 0 57 (dk_at dksX3_next_14 20 rfl rfl)
theorem dX3_next_348 : decode cX3_next 348 = .ok (.aload_n 0, 1) := dk_42 (dk_at dksX3_next_14 23 rfl rfl)
theorem dX3_next_349 : decode cX3_next 349 = .ok (.getfield 19, 3) := dk_180 0 19 (dk_at dksX3_next_15 0 rfl rfl)
theorem dX3_next_352 : decode cX3_next 352 = .ok (.aload_n 0, 1) := dk_42 (dk_at dksX3_next_15 3 rfl rfl)
theorem dX3_next_353 : decode cX3_next 353 = .ok (.getfield 15, 3) := dk_180 0 15 (dk_at dksX3_next_15 4 rfl rfl)
theorem dX3_next_356 : decode cX3_next 356 = .ok (.if_icmp .ge 46, 3) := dk_162 0 46 (dk_at dksX3_next_15 7 rfl rfl)
theorem dX3_next_359 : decode cX3_next 359 = .ok (.aload_n 0, 1) := dk_42 (dk_at dksX3_next_15 10 rfl rfl)
theorem dX3_next_360 : decode cX3_next 360 = .ok (.getfield 9, 3) := dk_180 0 9 (dk_at dksX3_next_15 11 rfl rfl)
theorem dX3_next_363 : decode cX3_next 363 = .ok (.aload_n 0, 1) := dk_42 (dk_at dksX3_next_15 14 rfl rfl)
theorem dX3_next_364 : decode cX3_next 364 = .ok (.getfield 19, 3) := dk_180 0 19 (dk_at dksX3_next_15 15 rfl rfl)
theorem dX3_next_367 : decode cX3_next 367 = .ok (.baload, 1) := dk_51 (dk_at dksX3_next_15 18 rfl rfl)
theorem dX3_next_368 : decode cX3_next 368 = .ok (.bipush 61, 2) := dk_16 61 (dk_at dksX3_next_15 19 rfl rfl)
theorem dX3_next_370 : decode cX3_next 370 = .ok (.if_icmp .ne 32, 3) := dk_160 0 32 (dk_at dksX3_next_15 21 rfl rfl)
theorem dX3_next_373 : decode cX3_next 373 = .ok (.aload_n 0, 1) := dk_42 (dk_at dksX3_next_16 0 rfl rfl)
theorem dX3_next_374 : decode cX3_next 374 = .ok (.iload_n 1, 1) := dk_27 (dk_at dksX3_next_16 1 rfl rfl)
theorem dX3_next_375 : decode cX3_next 375 = .ok (.bipush 60, 2) := dk_16 60 (dk_at dksX3_next_16 2 rfl rfl)
theorem dX3_next_377 : decode cX3_next 377 = .ok (.if_icmp .ne 9, 3) := dk_160 0 9 (dk_at dksX3_next_16 4 rfl rfl)
theorem dX3_next_380 : decode cX3_next 380 = .ok (.sipush 303, 3) := dk_17 1 47 (dk_at dksX3_next_16 7 rfl rfl)
theorem dX3_next_383 : decode cX3_next 383 = .ok (.goto 6, 3) := dk_167 0 6 (dk_at dksX3_next_16 10 rfl rfl)
theorem dX3_next_386 : decode cX3_next 386 = .ok (.sipush 304, 3) := dk_17 1 48 (dk_at dksX3_next_16 13 rfl rfl)
theorem dX3_next_389 : decode cX3_next 389 = .ok (.putfield 25, 3) := dk_181 0 25 (dk_at dksX3_next_16 16 rfl rfl)
theorem dX3_next_392 : decode cX3_next 392 = .ok (.aload_n 0, 1) := dk_42 (dk_at dksX3_next_16 19 rfl rfl)
theorem dX3_next_393 : decode cX3_next 393 = .ok (.dup, 1) := dk_89 (dk_at dksX3_next_16 20 rfl rfl)
theorem dX3_next_394 : decode cX3_next 394 = .ok (.getfield 19, 3) := dk_180 0 19 (dk_at dksX3_next_16 21 rfl rfl)
theorem dX3_next_397 : decode cX3_next 397 = .ok (.iconst 1, 1) := dk_4 (dk_at dksX3_next_17 0 rfl rfl)
theorem dX3_next_398 : decode cX3_next 398 = .ok (.iadd, 1) := dk_96 (dk_at dksX3_next_17 1 rfl rfl)
theorem dX3_next_399 : decode cX3_next 399 = .ok (.putfield 19, 3) := dk_181 0 19 (dk_at dksX3_next_17 2 rfl rfl)
theorem dX3_next_402 : decode cX3_next 402 = .ok (.return_, 1) := dk_177 (dk_at dksX3_next_17 5 rfl rfl)
abbrev cX3_isLetter : ByteArray := prog_17_method_2_code
def yX3_isLetter : MethodName := ⟨RX3, "isLetter", "(I)Z"⟩
def dkwX3_isLetter_1 : List UInt8 := [4, 167, 0, 4, 3, 172]
abbrev dktX3_isLetter_1 : List UInt8 := dkwX3_isLetter_1 ++ []
def dkwX3_isLetter_0 : List UInt8 := [26, 16, 97, 161, 0, 9, 26, 16, 122, 164, 0, 15, 26, 16, 65, 161, 0, 13, 26, 16, 90, 163, 0, 7]
abbrev dktX3_isLetter_0 : List UInt8 := dkwX3_isLetter_0 ++ dktX3_isLetter_1
theorem dksX3_isLetter_0 : cX3_isLetter.data.toList.drop 0 = dktX3_isLetter_0 := by decide +kernel
theorem dksX3_isLetter_1 : cX3_isLetter.data.toList.drop 24 = dktX3_isLetter_1 := dk_seg dksX3_isLetter_0 24 rfl rfl
theorem dX3_isLetter_0 : decode cX3_isLetter 0 = .ok (.iload_n 0, 1) := dk_26 (dk_at dksX3_isLetter_0 0 rfl rfl)
theorem dX3_isLetter_1 : decode cX3_isLetter 1 = .ok (.bipush 97, 2) := dk_16 97 (dk_at dksX3_isLetter_0 1 rfl rfl)
theorem dX3_isLetter_3 : decode cX3_isLetter 3 = .ok (.if_icmp .lt 9, 3) := dk_161 0 9 (dk_at dksX3_isLetter_0 3 rfl rfl)
theorem dX3_isLetter_6 : decode cX3_isLetter 6 = .ok (.iload_n 0, 1) := dk_26 (dk_at dksX3_isLetter_0 6 rfl rfl)
theorem dX3_isLetter_7 : decode cX3_isLetter 7 = .ok (.bipush 122, 2) := dk_16 122 (dk_at dksX3_isLetter_0 7 rfl rfl)
theorem dX3_isLetter_9 : decode cX3_isLetter 9 = .ok (.if_icmp .le 15, 3) := dk_164 0 15 (dk_at dksX3_isLetter_0 9 rfl rfl)
theorem dX3_isLetter_12 : decode cX3_isLetter 12 = .ok (.iload_n 0, 1) := dk_26 (dk_at dksX3_isLetter_0 12 rfl rfl)
theorem dX3_isLetter_13 : decode cX3_isLetter 13 = .ok (.bipush 65, 2) := dk_16 65 (dk_at dksX3_isLetter_0 13 rfl rfl)
theorem dX3_isLetter_15 : decode cX3_isLetter 15 = .ok (.if_icmp .lt 13, 3) := dk_161 0 13 (dk_at dksX3_isLetter_0 15 rfl rfl)
theorem dX3_isLetter_18 : decode cX3_isLetter 18 = .ok (.iload_n 0, 1) := dk_26 (dk_at dksX3_isLetter_0 18 rfl rfl)
theorem dX3_isLetter_19 : decode cX3_isLetter 19 = .ok (.bipush 90, 2) := dk_16 90 (dk_at dksX3_isLetter_0 19 rfl rfl)
theorem dX3_isLetter_21 : decode cX3_isLetter 21 = .ok (.if_icmp .gt 7, 3) := dk_163 0 7 (dk_at dksX3_isLetter_0 21 rfl rfl)
theorem dX3_isLetter_24 : decode cX3_isLetter 24 = .ok (.iconst 1, 1) := dk_4 (dk_at dksX3_isLetter_1 0 rfl rfl)
theorem dX3_isLetter_25 : decode cX3_isLetter 25 = .ok (.goto 4, 3) := dk_167 0 4 (dk_at dksX3_isLetter_1 1 rfl rfl)
theorem dX3_isLetter_28 : decode cX3_isLetter 28 = .ok (.iconst 0, 1) := dk_3 (dk_at dksX3_isLetter_1 4 rfl rfl)
theorem dX3_isLetter_29 : decode cX3_isLetter 29 = .ok (.ireturn, 1) := dk_172 (dk_at dksX3_isLetter_1 5 rfl rfl)
abbrev cX3_isWord : ByteArray := prog_17_method_5_code
def yX3_isWord : MethodName := ⟨RX3, "isWord", "(Ljava/lang/String;)Z"⟩
def dkwX3_isWord_2 : List UInt8 := [159, 0, 5, 3, 172, 132, 2, 1, 167, 255, 224, 4, 172]
abbrev dktX3_isWord_2 : List UInt8 := dkwX3_isWord_2 ++ []
def dkwX3_isWord_1 : List UInt8 := [182, 0, 55, 162, 0, 30, 42, 180, 0, 9, 42, 180, 0, 22, 28, 96, 51, 43, 28, 182, 0, 61]
abbrev dktX3_isWord_1 : List UInt8 := dkwX3_isWord_1 ++ dktX3_isWord_2
def dkwX3_isWord_0 : List UInt8 := [42, 180, 0, 19, 42, 180, 0, 22, 100, 43, 182, 0, 55, 159, 0, 5, 3, 172, 3, 61, 28, 43]
abbrev dktX3_isWord_0 : List UInt8 := dkwX3_isWord_0 ++ dktX3_isWord_1
theorem dksX3_isWord_0 : cX3_isWord.data.toList.drop 0 = dktX3_isWord_0 := by decide +kernel
theorem dksX3_isWord_1 : cX3_isWord.data.toList.drop 22 = dktX3_isWord_1 := dk_seg dksX3_isWord_0 22 rfl rfl
theorem dksX3_isWord_2 : cX3_isWord.data.toList.drop 44 = dktX3_isWord_2 := dk_seg dksX3_isWord_1 22 rfl rfl
theorem dX3_isWord_0 : decode cX3_isWord 0 = .ok (.aload_n 0, 1) := dk_42 (dk_at dksX3_isWord_0 0 rfl rfl)
theorem dX3_isWord_1 : decode cX3_isWord 1 = .ok (.getfield 19, 3) := dk_180 0 19 (dk_at dksX3_isWord_0 1 rfl rfl)
theorem dX3_isWord_4 : decode cX3_isWord 4 = .ok (.aload_n 0, 1) := dk_42 (dk_at dksX3_isWord_0 4 rfl rfl)
theorem dX3_isWord_5 : decode cX3_isWord 5 = .ok (.getfield 22, 3) := dk_180 0 22 (dk_at dksX3_isWord_0 5 rfl rfl)
theorem dX3_isWord_8 : decode cX3_isWord 8 = .ok (.isub, 1) := dk_100 (dk_at dksX3_isWord_0 8 rfl rfl)
theorem dX3_isWord_9 : decode cX3_isWord 9 = .ok (.aload_n 1, 1) := dk_43 (dk_at dksX3_isWord_0 9 rfl rfl)
theorem dX3_isWord_10 : decode cX3_isWord 10 = .ok (.invokevirtual 55, 3) := dk_182 0 55 (dk_at dksX3_isWord_0 10 rfl rfl)
theorem dX3_isWord_13 : decode cX3_isWord 13 = .ok (.if_icmp .eq 5, 3) := dk_159 0 5 (dk_at dksX3_isWord_0 13 rfl rfl)
theorem dX3_isWord_16 : decode cX3_isWord 16 = .ok (.iconst 0, 1) := dk_3 (dk_at dksX3_isWord_0 16 rfl rfl)
theorem dX3_isWord_17 : decode cX3_isWord 17 = .ok (.ireturn, 1) := dk_172 (dk_at dksX3_isWord_0 17 rfl rfl)
theorem dX3_isWord_18 : decode cX3_isWord 18 = .ok (.iconst 0, 1) := dk_3 (dk_at dksX3_isWord_0 18 rfl rfl)
theorem dX3_isWord_19 : decode cX3_isWord 19 = .ok (.istore_n 2, 1) := dk_61 (dk_at dksX3_isWord_0 19 rfl rfl)
theorem dX3_isWord_20 : decode cX3_isWord 20 = .ok (.iload_n 2, 1) := dk_28 (dk_at dksX3_isWord_0 20 rfl rfl)
theorem dX3_isWord_21 : decode cX3_isWord 21 = .ok (.aload_n 1, 1) := dk_43 (dk_at dksX3_isWord_0 21 rfl rfl)
theorem dX3_isWord_22 : decode cX3_isWord 22 = .ok (.invokevirtual 55, 3) := dk_182 0 55 (dk_at dksX3_isWord_1 0 rfl rfl)
theorem dX3_isWord_25 : decode cX3_isWord 25 = .ok (.if_icmp .ge 30, 3) := dk_162 0 30 (dk_at dksX3_isWord_1 3 rfl rfl)
theorem dX3_isWord_28 : decode cX3_isWord 28 = .ok (.aload_n 0, 1) := dk_42 (dk_at dksX3_isWord_1 6 rfl rfl)
theorem dX3_isWord_29 : decode cX3_isWord 29 = .ok (.getfield 9, 3) := dk_180 0 9 (dk_at dksX3_isWord_1 7 rfl rfl)
theorem dX3_isWord_32 : decode cX3_isWord 32 = .ok (.aload_n 0, 1) := dk_42 (dk_at dksX3_isWord_1 10 rfl rfl)
theorem dX3_isWord_33 : decode cX3_isWord 33 = .ok (.getfield 22, 3) := dk_180 0 22 (dk_at dksX3_isWord_1 11 rfl rfl)
theorem dX3_isWord_36 : decode cX3_isWord 36 = .ok (.iload_n 2, 1) := dk_28 (dk_at dksX3_isWord_1 14 rfl rfl)
theorem dX3_isWord_37 : decode cX3_isWord 37 = .ok (.iadd, 1) := dk_96 (dk_at dksX3_isWord_1 15 rfl rfl)
theorem dX3_isWord_38 : decode cX3_isWord 38 = .ok (.baload, 1) := dk_51 (dk_at dksX3_isWord_1 16 rfl rfl)
theorem dX3_isWord_39 : decode cX3_isWord 39 = .ok (.aload_n 1, 1) := dk_43 (dk_at dksX3_isWord_1 17 rfl rfl)
theorem dX3_isWord_40 : decode cX3_isWord 40 = .ok (.iload_n 2, 1) := dk_28 (dk_at dksX3_isWord_1 18 rfl rfl)
theorem dX3_isWord_41 : decode cX3_isWord 41 = .ok (.invokevirtual 61, 3) := dk_182 0 61 (dk_at dksX3_isWord_1 19 rfl rfl)
theorem dX3_isWord_44 : decode cX3_isWord 44 = .ok (.if_icmp .eq 5, 3) := dk_159 0 5 (dk_at dksX3_isWord_2 0 rfl rfl)
theorem dX3_isWord_47 : decode cX3_isWord 47 = .ok (.iconst 0, 1) := dk_3 (dk_at dksX3_isWord_2 3 rfl rfl)
theorem dX3_isWord_48 : decode cX3_isWord 48 = .ok (.ireturn, 1) := dk_172 (dk_at dksX3_isWord_2 4 rfl rfl)
theorem dX3_isWord_49 : decode cX3_isWord 49 = .ok (.iinc 2 1, 3) := dk_132 2 1 (dk_at dksX3_isWord_2 5 rfl rfl)
theorem dX3_isWord_52 : decode cX3_isWord 52 = .ok (.goto (-32), 3) := dk_167 255 224 (dk_at dksX3_isWord_2 8 rfl rfl)
theorem dX3_isWord_55 : decode cX3_isWord 55 = .ok (.iconst 1, 1) := dk_4 (dk_at dksX3_isWord_2 11 rfl rfl)
theorem dX3_isWord_56 : decode cX3_isWord 56 = .ok (.ireturn, 1) := dk_172 (dk_at dksX3_isWord_2 12 rfl rfl)
abbrev cX3_isDigit : ByteArray := prog_17_method_3_code
def yX3_isDigit : MethodName := ⟨RX3, "isDigit", "(I)Z"⟩
def dkwX3_isDigit_0 : List UInt8 := [26, 16, 48, 161, 0, 13, 26, 16, 57, 163, 0, 7, 4, 167, 0, 4, 3, 172]
abbrev dktX3_isDigit_0 : List UInt8 := dkwX3_isDigit_0 ++ []
theorem dksX3_isDigit_0 : cX3_isDigit.data.toList.drop 0 = dktX3_isDigit_0 := by decide +kernel
theorem dX3_isDigit_0 : decode cX3_isDigit 0 = .ok (.iload_n 0, 1) := dk_26 (dk_at dksX3_isDigit_0 0 rfl rfl)
theorem dX3_isDigit_1 : decode cX3_isDigit 1 = .ok (.bipush 48, 2) := dk_16 48 (dk_at dksX3_isDigit_0 1 rfl rfl)
theorem dX3_isDigit_3 : decode cX3_isDigit 3 = .ok (.if_icmp .lt 13, 3) := dk_161 0 13 (dk_at dksX3_isDigit_0 3 rfl rfl)
theorem dX3_isDigit_6 : decode cX3_isDigit 6 = .ok (.iload_n 0, 1) := dk_26 (dk_at dksX3_isDigit_0 6 rfl rfl)
theorem dX3_isDigit_7 : decode cX3_isDigit 7 = .ok (.bipush 57, 2) := dk_16 57 (dk_at dksX3_isDigit_0 7 rfl rfl)
theorem dX3_isDigit_9 : decode cX3_isDigit 9 = .ok (.if_icmp .gt 7, 3) := dk_163 0 7 (dk_at dksX3_isDigit_0 9 rfl rfl)
theorem dX3_isDigit_12 : decode cX3_isDigit 12 = .ok (.iconst 1, 1) := dk_4 (dk_at dksX3_isDigit_0 12 rfl rfl)
theorem dX3_isDigit_13 : decode cX3_isDigit 13 = .ok (.goto 4, 3) := dk_167 0 4 (dk_at dksX3_isDigit_0 13 rfl rfl)
theorem dX3_isDigit_16 : decode cX3_isDigit 16 = .ok (.iconst 0, 1) := dk_3 (dk_at dksX3_isDigit_0 16 rfl rfl)
theorem dX3_isDigit_17 : decode cX3_isDigit 17 = .ok (.ireturn, 1) := dk_172 (dk_at dksX3_isDigit_0 17 rfl rfl)
abbrev cX3_wrong : ByteArray := prog_17_method_6_code
def yX3_wrong : MethodName := ⟨RX3, "wrong", "(I)LRailingsCount$Wrong;"⟩
def dkwX3_wrong_0 : List UInt8 := [187, 0, 65, 89, 27, 42, 180, 0, 22, 183, 0, 67, 176]
abbrev dktX3_wrong_0 : List UInt8 := dkwX3_wrong_0 ++ []
theorem dksX3_wrong_0 : cX3_wrong.data.toList.drop 0 = dktX3_wrong_0 := by decide +kernel
theorem dX3_wrong_0 : decode cX3_wrong 0 = .ok (.new 65, 3) := dk_187 0 65 (dk_at dksX3_wrong_0 0 rfl rfl)
theorem dX3_wrong_3 : decode cX3_wrong 3 = .ok (.dup, 1) := dk_89 (dk_at dksX3_wrong_0 3 rfl rfl)
theorem dX3_wrong_4 : decode cX3_wrong 4 = .ok (.iload_n 1, 1) := dk_27 (dk_at dksX3_wrong_0 4 rfl rfl)
theorem dX3_wrong_5 : decode cX3_wrong 5 = .ok (.aload_n 0, 1) := dk_42 (dk_at dksX3_wrong_0 5 rfl rfl)
theorem dX3_wrong_6 : decode cX3_wrong 6 = .ok (.getfield 22, 3) := dk_180 0 22 (dk_at dksX3_wrong_0 6 rfl rfl)
theorem dX3_wrong_9 : decode cX3_wrong 9 = .ok (.invokespecial 67, 3) := dk_183 0 67 (dk_at dksX3_wrong_0 9 rfl rfl)
theorem dX3_wrong_12 : decode cX3_wrong 12 = .ok (.areturn, 1) := dk_176 (dk_at dksX3_wrong_0 12 rfl rfl)
abbrev cX3_sum : ByteArray := prog_17_method_16_code
def yX3_sum : MethodName := ⟨RX3, "sum", "()LRailingsCount$Sum;"⟩
def dkwX3_sum_2 : List UInt8 := [182, 0, 168, 167, 255, 220, 43, 182, 0, 171, 176]
abbrev dktX3_sum_2 : List UInt8 := dkwX3_sum_2 ++ []
def dkwX3_sum_1 : List UInt8 := [180, 0, 25, 16, 45, 160, 0, 24, 42, 180, 0, 25, 61, 42, 182, 0, 74, 43, 28, 42, 182, 0, 162]
abbrev dktX3_sum_1 : List UInt8 := dkwX3_sum_1 ++ dktX3_sum_2
def dkwX3_sum_0 : List UInt8 := [187, 0, 160, 89, 42, 182, 0, 162, 183, 0, 165, 76, 42, 180, 0, 25, 16, 43, 159, 0, 12, 42]
abbrev dktX3_sum_0 : List UInt8 := dkwX3_sum_0 ++ dktX3_sum_1
theorem dksX3_sum_0 : cX3_sum.data.toList.drop 0 = dktX3_sum_0 := by decide +kernel
theorem dksX3_sum_1 : cX3_sum.data.toList.drop 22 = dktX3_sum_1 := dk_seg dksX3_sum_0 22 rfl rfl
theorem dksX3_sum_2 : cX3_sum.data.toList.drop 45 = dktX3_sum_2 := dk_seg dksX3_sum_1 23 rfl rfl
theorem dX3_sum_0 : decode cX3_sum 0 = .ok (.new 160, 3) := dk_187 0 160 (dk_at dksX3_sum_0 0 rfl rfl)
theorem dX3_sum_3 : decode cX3_sum 3 = .ok (.dup, 1) := dk_89 (dk_at dksX3_sum_0 3 rfl rfl)
theorem dX3_sum_4 : decode cX3_sum 4 = .ok (.aload_n 0, 1) := dk_42 (dk_at dksX3_sum_0 4 rfl rfl)
theorem dX3_sum_5 : decode cX3_sum 5 = .ok (.invokevirtual 162, 3) := dk_182 0 162 (dk_at dksX3_sum_0 5 rfl rfl)
theorem dX3_sum_8 : decode cX3_sum 8 = .ok (.invokespecial 165, 3) := dk_183 0 165 (dk_at dksX3_sum_0 8 rfl rfl)
theorem dX3_sum_11 : decode cX3_sum 11 = .ok (.astore_n 1, 1) := dk_76 (dk_at dksX3_sum_0 11 rfl rfl)
theorem dX3_sum_12 : decode cX3_sum 12 = .ok (.aload_n 0, 1) := dk_42 (dk_at dksX3_sum_0 12 rfl rfl)
theorem dX3_sum_13 : decode cX3_sum 13 = .ok (.getfield 25, 3) := dk_180 0 25 (dk_at dksX3_sum_0 13 rfl rfl)
theorem dX3_sum_16 : decode cX3_sum 16 = .ok (.bipush 43, 2) := dk_16 43 (dk_at dksX3_sum_0 16 rfl rfl)
theorem dX3_sum_18 : decode cX3_sum 18 = .ok (.if_icmp .eq 12, 3) := dk_159 0 12 (dk_at dksX3_sum_0 18 rfl rfl)
theorem dX3_sum_21 : decode cX3_sum 21 = .ok (.aload_n 0, 1) := dk_42 (dk_at dksX3_sum_0 21 rfl rfl)
theorem dX3_sum_22 : decode cX3_sum 22 = .ok (.getfield 25, 3) := dk_180 0 25 (dk_at dksX3_sum_1 0 rfl rfl)
theorem dX3_sum_25 : decode cX3_sum 25 = .ok (.bipush 45, 2) := dk_16 45 (dk_at dksX3_sum_1 3 rfl rfl)
theorem dX3_sum_27 : decode cX3_sum 27 = .ok (.if_icmp .ne 24, 3) := dk_160 0 24 (dk_at dksX3_sum_1 5 rfl rfl)
theorem dX3_sum_30 : decode cX3_sum 30 = .ok (.aload_n 0, 1) := dk_42 (dk_at dksX3_sum_1 8 rfl rfl)
theorem dX3_sum_31 : decode cX3_sum 31 = .ok (.getfield 25, 3) := dk_180 0 25 (dk_at dksX3_sum_1 9 rfl rfl)
theorem dX3_sum_34 : decode cX3_sum 34 = .ok (.istore_n 2, 1) := dk_61 (dk_at dksX3_sum_1 12 rfl rfl)
theorem dX3_sum_35 : decode cX3_sum 35 = .ok (.aload_n 0, 1) := dk_42 (dk_at dksX3_sum_1 13 rfl rfl)
theorem dX3_sum_36 : decode cX3_sum 36 = .ok (.invokevirtual 74, 3) := dk_182 0 74 (dk_at dksX3_sum_1 14 rfl rfl)
theorem dX3_sum_39 : decode cX3_sum 39 = .ok (.aload_n 1, 1) := dk_43 (dk_at dksX3_sum_1 17 rfl rfl)
theorem dX3_sum_40 : decode cX3_sum 40 = .ok (.iload_n 2, 1) := dk_28 (dk_at dksX3_sum_1 18 rfl rfl)
theorem dX3_sum_41 : decode cX3_sum 41 = .ok (.aload_n 0, 1) := dk_42 (dk_at dksX3_sum_1 19 rfl rfl)
theorem dX3_sum_42 : decode cX3_sum 42 = .ok (.invokevirtual 162, 3) := dk_182 0 162 (dk_at dksX3_sum_1 20 rfl rfl)
theorem dX3_sum_45 : decode cX3_sum 45 = .ok (.invokevirtual 168, 3) := dk_182 0 168 (dk_at dksX3_sum_2 0 rfl rfl)
theorem dX3_sum_48 : decode cX3_sum 48 = .ok (.goto (-36), 3) := dk_167 255 220 (dk_at dksX3_sum_2 3 rfl rfl)
theorem dX3_sum_51 : decode cX3_sum 51 = .ok (.aload_n 1, 1) := dk_43 (dk_at dksX3_sum_2 6 rfl rfl)
theorem dX3_sum_52 : decode cX3_sum 52 = .ok (.invokevirtual 171, 3) := dk_182 0 171 (dk_at dksX3_sum_2 7 rfl rfl)
theorem dX3_sum_55 : decode cX3_sum 55 = .ok (.areturn, 1) := dk_176 (dk_at dksX3_sum_2 10 rfl rfl)
abbrev cX3_product : ByteArray := prog_17_method_17_code
def yX3_product : MethodName := ⟨RX3, "product", "()LRailingsCount$Sum;"⟩
def dkwX3_product_2 : List UInt8 := [182, 0, 168, 167, 255, 220, 43, 182, 0, 171, 176]
abbrev dktX3_product_2 : List UInt8 := dkwX3_product_2 ++ []
def dkwX3_product_1 : List UInt8 := [180, 0, 25, 16, 47, 160, 0, 24, 42, 180, 0, 25, 61, 42, 182, 0, 74, 43, 28, 42, 182, 0, 174]
abbrev dktX3_product_1 : List UInt8 := dkwX3_product_1 ++ dktX3_product_2
def dkwX3_product_0 : List UInt8 := [187, 0, 160, 89, 42, 182, 0, 174, 183, 0, 165, 76, 42, 180, 0, 25, 16, 42, 159, 0, 12, 42]
abbrev dktX3_product_0 : List UInt8 := dkwX3_product_0 ++ dktX3_product_1
theorem dksX3_product_0 : cX3_product.data.toList.drop 0 = dktX3_product_0 := by decide +kernel
theorem dksX3_product_1 : cX3_product.data.toList.drop 22 = dktX3_product_1 := dk_seg dksX3_product_0 22 rfl rfl
theorem dksX3_product_2 : cX3_product.data.toList.drop 45 = dktX3_product_2 := dk_seg dksX3_product_1 23 rfl rfl
theorem dX3_product_0 : decode cX3_product 0 = .ok (.new 160, 3) := dk_187 0 160 (dk_at dksX3_product_0 0 rfl rfl)
theorem dX3_product_3 : decode cX3_product 3 = .ok (.dup, 1) := dk_89 (dk_at dksX3_product_0 3 rfl rfl)
theorem dX3_product_4 : decode cX3_product 4 = .ok (.aload_n 0, 1) := dk_42 (dk_at dksX3_product_0 4 rfl rfl)
theorem dX3_product_5 : decode cX3_product 5 = .ok (.invokevirtual 174, 3) := dk_182 0 174 (dk_at dksX3_product_0 5 rfl rfl)
theorem dX3_product_8 : decode cX3_product 8 = .ok (.invokespecial 165, 3) := dk_183 0 165 (dk_at dksX3_product_0 8 rfl rfl)
theorem dX3_product_11 : decode cX3_product 11 = .ok (.astore_n 1, 1) := dk_76 (dk_at dksX3_product_0 11 rfl rfl)
theorem dX3_product_12 : decode cX3_product 12 = .ok (.aload_n 0, 1) := dk_42 (dk_at dksX3_product_0 12 rfl rfl)
theorem dX3_product_13 : decode cX3_product 13 = .ok (.getfield 25, 3) := dk_180 0 25 (dk_at dksX3_product_0 13 rfl rfl)
theorem dX3_product_16 : decode cX3_product 16 = .ok (.bipush 42, 2) := dk_16 42 (dk_at dksX3_product_0 16 rfl rfl)
theorem dX3_product_18 : decode cX3_product 18 = .ok (.if_icmp .eq 12, 3) := dk_159 0 12 (dk_at dksX3_product_0 18 rfl rfl)
theorem dX3_product_21 : decode cX3_product 21 = .ok (.aload_n 0, 1) := dk_42 (dk_at dksX3_product_0 21 rfl rfl)
theorem dX3_product_22 : decode cX3_product 22 = .ok (.getfield 25, 3) := dk_180 0 25 (dk_at dksX3_product_1 0 rfl rfl)
theorem dX3_product_25 : decode cX3_product 25 = .ok (.bipush 47, 2) := dk_16 47 (dk_at dksX3_product_1 3 rfl rfl)
theorem dX3_product_27 : decode cX3_product 27 = .ok (.if_icmp .ne 24, 3) := dk_160 0 24 (dk_at dksX3_product_1 5 rfl rfl)
theorem dX3_product_30 : decode cX3_product 30 = .ok (.aload_n 0, 1) := dk_42 (dk_at dksX3_product_1 8 rfl rfl)
theorem dX3_product_31 : decode cX3_product 31 = .ok (.getfield 25, 3) := dk_180 0 25 (dk_at dksX3_product_1 9 rfl rfl)
theorem dX3_product_34 : decode cX3_product 34 = .ok (.istore_n 2, 1) := dk_61 (dk_at dksX3_product_1 12 rfl rfl)
theorem dX3_product_35 : decode cX3_product 35 = .ok (.aload_n 0, 1) := dk_42 (dk_at dksX3_product_1 13 rfl rfl)
theorem dX3_product_36 : decode cX3_product 36 = .ok (.invokevirtual 74, 3) := dk_182 0 74 (dk_at dksX3_product_1 14 rfl rfl)
theorem dX3_product_39 : decode cX3_product 39 = .ok (.aload_n 1, 1) := dk_43 (dk_at dksX3_product_1 17 rfl rfl)
theorem dX3_product_40 : decode cX3_product 40 = .ok (.iload_n 2, 1) := dk_28 (dk_at dksX3_product_1 18 rfl rfl)
theorem dX3_product_41 : decode cX3_product 41 = .ok (.aload_n 0, 1) := dk_42 (dk_at dksX3_product_1 19 rfl rfl)
theorem dX3_product_42 : decode cX3_product 42 = .ok (.invokevirtual 174, 3) := dk_182 0 174 (dk_at dksX3_product_1 20 rfl rfl)
theorem dX3_product_45 : decode cX3_product 45 = .ok (.invokevirtual 168, 3) := dk_182 0 168 (dk_at dksX3_product_2 0 rfl rfl)
theorem dX3_product_48 : decode cX3_product 48 = .ok (.goto (-36), 3) := dk_167 255 220 (dk_at dksX3_product_2 3 rfl rfl)
theorem dX3_product_51 : decode cX3_product 51 = .ok (.aload_n 1, 1) := dk_43 (dk_at dksX3_product_2 6 rfl rfl)
theorem dX3_product_52 : decode cX3_product 52 = .ok (.invokevirtual 171, 3) := dk_182 0 171 (dk_at dksX3_product_2 7 rfl rfl)
theorem dX3_product_55 : decode cX3_product 55 = .ok (.areturn, 1) := dk_176 (dk_at dksX3_product_2 10 rfl rfl)
abbrev cX3_one : ByteArray := prog_17_method_22_code
def yX3_one : MethodName := ⟨RX3, "one", "()LRailingsCount$Sum;"⟩
def dkwX3_one_8 : List UInt8 := [77, 167, 0, 9, 42, 4, 182, 0, 70, 191, 42, 89, 180, 0, 77, 4, 100, 181, 0, 77, 44, 176]
abbrev dktX3_one_8 : List UInt8 := dkwX3_one_8 ++ []
def dkwX3_one_7 : List UInt8 := [160, 0, 15, 187, 0, 213, 89, 25, 4, 183, 0, 215, 167, 0, 12, 187, 0, 216, 89, 25, 4, 183, 0, 218]
abbrev dktX3_one_7 : List UInt8 := dkwX3_one_7 ++ dktX3_one_8
def dkwX3_one_6 : List UInt8 := [160, 0, 50, 42, 180, 0, 25, 62, 42, 182, 0, 147, 42, 182, 0, 174, 58, 4, 29, 17, 0, 215]
abbrev dktX3_one_6 : List UInt8 := dkwX3_one_6 ++ dktX3_one_7
def dkwX3_one_5 : List UInt8 := [182, 0, 111, 167, 0, 75, 42, 180, 0, 25, 16, 45, 159, 0, 13, 42, 180, 0, 25, 17, 0, 215]
abbrev dktX3_one_5 : List UInt8 := dkwX3_one_5 ++ dktX3_one_6
def dkwX3_one_4 : List UInt8 := [176, 42, 180, 0, 25, 16, 40, 160, 0, 21, 42, 182, 0, 147, 42, 182, 0, 93, 77, 42, 16, 41]
abbrev dktX3_one_4 : List UInt8 := dkwX3_one_4 ++ dktX3_one_5
def dkwX3_one_3 : List UInt8 := [182, 0, 207, 154, 0, 9, 42, 8, 182, 0, 70, 191, 42, 182, 0, 74, 187, 0, 210, 89, 27, 183, 0, 212]
abbrev dktX3_one_3 : List UInt8 := dkwX3_one_3 ++ dktX3_one_4
def dkwX3_one_2 : List UInt8 := [17, 0, 213, 160, 0, 8, 42, 182, 0, 201, 176, 42, 182, 0, 204, 60, 27, 2, 159, 0, 30, 42, 27]
abbrev dktX3_one_2 : List UInt8 := dkwX3_one_2 ++ dktX3_one_3
def dkwX3_one_1 : List UInt8 := [183, 0, 196, 176, 42, 180, 0, 25, 17, 0, 216, 160, 0, 8, 42, 182, 0, 198, 176, 42, 180, 0, 25]
abbrev dktX3_one_1 : List UInt8 := dkwX3_one_1 ++ dktX3_one_2
def dkwX3_one_0 : List UInt8 := [42, 180, 0, 25, 17, 1, 44, 160, 0, 19, 187, 0, 194, 89, 42, 3, 17, 39, 15, 182, 0, 115]
abbrev dktX3_one_0 : List UInt8 := dkwX3_one_0 ++ dktX3_one_1
theorem dksX3_one_0 : cX3_one.data.toList.drop 0 = dktX3_one_0 := by decide +kernel
theorem dksX3_one_1 : cX3_one.data.toList.drop 22 = dktX3_one_1 := dk_seg dksX3_one_0 22 rfl rfl
theorem dksX3_one_2 : cX3_one.data.toList.drop 45 = dktX3_one_2 := dk_seg dksX3_one_1 23 rfl rfl
theorem dksX3_one_3 : cX3_one.data.toList.drop 68 = dktX3_one_3 := dk_seg dksX3_one_2 23 rfl rfl
theorem dksX3_one_4 : cX3_one.data.toList.drop 92 = dktX3_one_4 := dk_seg dksX3_one_3 24 rfl rfl
theorem dksX3_one_5 : cX3_one.data.toList.drop 114 = dktX3_one_5 := dk_seg dksX3_one_4 22 rfl rfl
theorem dksX3_one_6 : cX3_one.data.toList.drop 136 = dktX3_one_6 := dk_seg dksX3_one_5 22 rfl rfl
theorem dksX3_one_7 : cX3_one.data.toList.drop 158 = dktX3_one_7 := dk_seg dksX3_one_6 22 rfl rfl
theorem dksX3_one_8 : cX3_one.data.toList.drop 182 = dktX3_one_8 := dk_seg dksX3_one_7 24 rfl rfl
theorem dX3_one_0 : decode cX3_one 0 = .ok (.aload_n 0, 1) := dk_42 (dk_at dksX3_one_0 0 rfl rfl)
theorem dX3_one_1 : decode cX3_one 1 = .ok (.getfield 25, 3) := dk_180 0 25 (dk_at dksX3_one_0 1 rfl rfl)
theorem dX3_one_4 : decode cX3_one 4 = .ok (.sipush 300, 3) := dk_17 1 44 (dk_at dksX3_one_0 4 rfl rfl)
theorem dX3_one_7 : decode cX3_one 7 = .ok (.if_icmp .ne 19, 3) := dk_160 0 19 (dk_at dksX3_one_0 7 rfl rfl)
theorem dX3_one_10 : decode cX3_one 10 = .ok (.new 194, 3) := dk_187 0 194 (dk_at dksX3_one_0 10 rfl rfl)
theorem dX3_one_13 : decode cX3_one 13 = .ok (.dup, 1) := dk_89 (dk_at dksX3_one_0 13 rfl rfl)
theorem dX3_one_14 : decode cX3_one 14 = .ok (.aload_n 0, 1) := dk_42 (dk_at dksX3_one_0 14 rfl rfl)
theorem dX3_one_15 : decode cX3_one 15 = .ok (.iconst 0, 1) := dk_3 (dk_at dksX3_one_0 15 rfl rfl)
theorem dX3_one_16 : decode cX3_one 16 = .ok (.sipush 9999, 3) := dk_17 39 15 (dk_at dksX3_one_0 16 rfl rfl)
theorem dX3_one_19 : decode cX3_one 19 = .ok (.invokevirtual 115, 3) := dk_182 0 115 (dk_at dksX3_one_0 19 rfl rfl)
theorem dX3_one_22 : decode cX3_one 22 = .ok (.invokespecial 196, 3) := dk_183 0 196 (dk_at dksX3_one_1 0 rfl rfl)
theorem dX3_one_25 : decode cX3_one 25 = .ok (.areturn, 1) := dk_176 (dk_at dksX3_one_1 3 rfl rfl)
theorem dX3_one_26 : decode cX3_one 26 = .ok (.aload_n 0, 1) := dk_42 (dk_at dksX3_one_1 4 rfl rfl)
theorem dX3_one_27 : decode cX3_one 27 = .ok (.getfield 25, 3) := dk_180 0 25 (dk_at dksX3_one_1 5 rfl rfl)
theorem dX3_one_30 : decode cX3_one 30 = .ok (.sipush 216, 3) := dk_17 0 216 (dk_at dksX3_one_1 8 rfl rfl)
theorem dX3_one_33 : decode cX3_one 33 = .ok (.if_icmp .ne 8, 3) := dk_160 0 8 (dk_at dksX3_one_1 11 rfl rfl)
theorem dX3_one_36 : decode cX3_one 36 = .ok (.aload_n 0, 1) := dk_42 (dk_at dksX3_one_1 14 rfl rfl)
theorem dX3_one_37 : decode cX3_one 37 = .ok (.invokevirtual 198, 3) := dk_182 0 198 (dk_at dksX3_one_1 15 rfl rfl)
theorem dX3_one_40 : decode cX3_one 40 = .ok (.areturn, 1) := dk_176 (dk_at dksX3_one_1 18 rfl rfl)
theorem dX3_one_41 : decode cX3_one 41 = .ok (.aload_n 0, 1) := dk_42 (dk_at dksX3_one_1 19 rfl rfl)
theorem dX3_one_42 : decode cX3_one 42 = .ok (.getfield 25, 3) := dk_180 0 25 (dk_at dksX3_one_1 20 rfl rfl)
theorem dX3_one_45 : decode cX3_one 45 = .ok (.sipush 213, 3) := dk_17 0 213 (dk_at dksX3_one_2 0 rfl rfl)
theorem dX3_one_48 : decode cX3_one 48 = .ok (.if_icmp .ne 8, 3) := dk_160 0 8 (dk_at dksX3_one_2 3 rfl rfl)
theorem dX3_one_51 : decode cX3_one 51 = .ok (.aload_n 0, 1) := dk_42 (dk_at dksX3_one_2 6 rfl rfl)
theorem dX3_one_52 : decode cX3_one 52 = .ok (.invokevirtual 201, 3) := dk_182 0 201 (dk_at dksX3_one_2 7 rfl rfl)
theorem dX3_one_55 : decode cX3_one 55 = .ok (.areturn, 1) := dk_176 (dk_at dksX3_one_2 10 rfl rfl)
theorem dX3_one_56 : decode cX3_one 56 = .ok (.aload_n 0, 1) := dk_42 (dk_at dksX3_one_2 11 rfl rfl)
theorem dX3_one_57 : decode cX3_one 57 = .ok (.invokevirtual 204, 3) := dk_182 0 204 (dk_at dksX3_one_2 12 rfl rfl)
theorem dX3_one_60 : decode cX3_one 60 = .ok (.istore_n 1, 1) := dk_60 (dk_at dksX3_one_2 15 rfl rfl)
theorem dX3_one_61 : decode cX3_one 61 = .ok (.iload_n 1, 1) := dk_27 (dk_at dksX3_one_2 16 rfl rfl)
theorem dX3_one_62 : decode cX3_one 62 = .ok (.iconst (-1), 1) := dk_2 (dk_at dksX3_one_2 17 rfl rfl)
theorem dX3_one_63 : decode cX3_one 63 = .ok (.if_icmp .eq 30, 3) := dk_159 0 30 (dk_at dksX3_one_2 18 rfl rfl)
theorem dX3_one_66 : decode cX3_one 66 = .ok (.aload_n 0, 1) := dk_42 (dk_at dksX3_one_2 21 rfl rfl)
theorem dX3_one_67 : decode cX3_one 67 = .ok (.iload_n 1, 1) := dk_27 (dk_at dksX3_one_2 22 rfl rfl)
theorem dX3_one_68 : decode cX3_one 68 = .ok (.invokevirtual 207, 3) := dk_182 0 207 (dk_at dksX3_one_3 0 rfl rfl)
theorem dX3_one_71 : decode cX3_one 71 = .ok (.ifCond .ne 9, 3) := dk_154 0 9 (dk_at dksX3_one_3 3 rfl rfl)
theorem dX3_one_74 : decode cX3_one 74 = .ok (.aload_n 0, 1) := dk_42 (dk_at dksX3_one_3 6 rfl rfl)
theorem dX3_one_75 : decode cX3_one 75 = .ok (.iconst 5, 1) := dk_8 (dk_at dksX3_one_3 7 rfl rfl)
theorem dX3_one_76 : decode cX3_one 76 = .ok (.invokevirtual 70, 3) := dk_182 0 70 (dk_at dksX3_one_3 8 rfl rfl)
theorem dX3_one_79 : decode cX3_one 79 = .ok (.athrow, 1) := dk_191 (dk_at dksX3_one_3 11 rfl rfl)
theorem dX3_one_80 : decode cX3_one 80 = .ok (.aload_n 0, 1) := dk_42 (dk_at dksX3_one_3 12 rfl rfl)
theorem dX3_one_81 : decode cX3_one 81 = .ok (.invokevirtual 74, 3) := dk_182 0 74 (dk_at dksX3_one_3 13 rfl rfl)
theorem dX3_one_84 : decode cX3_one 84 = .ok (.new 210, 3) := dk_187 0 210 (dk_at dksX3_one_3 16 rfl rfl)
theorem dX3_one_87 : decode cX3_one 87 = .ok (.dup, 1) := dk_89 (dk_at dksX3_one_3 19 rfl rfl)
theorem dX3_one_88 : decode cX3_one 88 = .ok (.iload_n 1, 1) := dk_27 (dk_at dksX3_one_3 20 rfl rfl)
theorem dX3_one_89 : decode cX3_one 89 = .ok (.invokespecial 212, 3) := dk_183 0 212 (dk_at dksX3_one_3 21 rfl rfl)
theorem dX3_one_92 : decode cX3_one 92 = .ok (.areturn, 1) := dk_176 (dk_at dksX3_one_4 0 rfl rfl)
theorem dX3_one_93 : decode cX3_one 93 = .ok (.aload_n 0, 1) := dk_42 (dk_at dksX3_one_4 1 rfl rfl)
theorem dX3_one_94 : decode cX3_one 94 = .ok (.getfield 25, 3) := dk_180 0 25 (dk_at dksX3_one_4 2 rfl rfl)
theorem dX3_one_97 : decode cX3_one 97 = .ok (.bipush 40, 2) := dk_16 40 (dk_at dksX3_one_4 5 rfl rfl)
theorem dX3_one_99 : decode cX3_one 99 = .ok (.if_icmp .ne 21, 3) := dk_160 0 21 (dk_at dksX3_one_4 7 rfl rfl)
theorem dX3_one_102 : decode cX3_one 102 = .ok (.aload_n 0, 1) := dk_42 (dk_at dksX3_one_4 10 rfl rfl)
theorem dX3_one_103 : decode cX3_one 103 = .ok (.invokevirtual 147, 3) := dk_182 0 147 (dk_at dksX3_one_4 11 rfl rfl)
theorem dX3_one_106 : decode cX3_one 106 = .ok (.aload_n 0, 1) := dk_42 (dk_at dksX3_one_4 14 rfl rfl)
theorem dX3_one_107 : decode cX3_one 107 = .ok (.invokevirtual 93, 3) := dk_182 0 93 (dk_at dksX3_one_4 15 rfl rfl)
theorem dX3_one_110 : decode cX3_one 110 = .ok (.astore_n 2, 1) := dk_77 (dk_at dksX3_one_4 18 rfl rfl)
theorem dX3_one_111 : decode cX3_one 111 = .ok (.aload_n 0, 1) := dk_42 (dk_at dksX3_one_4 19 rfl rfl)
theorem dX3_one_112 : decode cX3_one 112 = .ok (.bipush 41, 2) := dk_16 41 (dk_at dksX3_one_4 20 rfl rfl)
theorem dX3_one_114 : decode cX3_one 114 = .ok (.invokevirtual 111, 3) := dk_182 0 111 (dk_at dksX3_one_5 0 rfl rfl)
theorem dX3_one_117 : decode cX3_one 117 = .ok (.goto 75, 3) := dk_167 0 75 (dk_at dksX3_one_5 3 rfl rfl)
theorem dX3_one_120 : decode cX3_one 120 = .ok (.aload_n 0, 1) := dk_42 (dk_at dksX3_one_5 6 rfl rfl)
theorem dX3_one_121 : decode cX3_one 121 = .ok (.getfield 25, 3) := dk_180 0 25 (dk_at dksX3_one_5 7 rfl rfl)
theorem dX3_one_124 : decode cX3_one 124 = .ok (.bipush 45, 2) := dk_16 45 (dk_at dksX3_one_5 10 rfl rfl)
theorem dX3_one_126 : decode cX3_one 126 = .ok (.if_icmp .eq 13, 3) := dk_159 0 13 (dk_at dksX3_one_5 12 rfl rfl)
theorem dX3_one_129 : decode cX3_one 129 = .ok (.aload_n 0, 1) := dk_42 (dk_at dksX3_one_5 15 rfl rfl)
theorem dX3_one_130 : decode cX3_one 130 = .ok (.getfield 25, 3) := dk_180 0 25 (dk_at dksX3_one_5 16 rfl rfl)
theorem dX3_one_133 : decode cX3_one 133 = .ok (.sipush 215, 3) := dk_17 0 215 (dk_at dksX3_one_5 19 rfl rfl)
theorem dX3_one_136 : decode cX3_one 136 = .ok (.if_icmp .ne 50, 3) := dk_160 0 50 (dk_at dksX3_one_6 0 rfl rfl)
theorem dX3_one_139 : decode cX3_one 139 = .ok (.aload_n 0, 1) := dk_42 (dk_at dksX3_one_6 3 rfl rfl)
theorem dX3_one_140 : decode cX3_one 140 = .ok (.getfield 25, 3) := dk_180 0 25 (dk_at dksX3_one_6 4 rfl rfl)
theorem dX3_one_143 : decode cX3_one 143 = .ok (.istore_n 3, 1) := dk_62 (dk_at dksX3_one_6 7 rfl rfl)
theorem dX3_one_144 : decode cX3_one 144 = .ok (.aload_n 0, 1) := dk_42 (dk_at dksX3_one_6 8 rfl rfl)
theorem dX3_one_145 : decode cX3_one 145 = .ok (.invokevirtual 147, 3) := dk_182 0 147 (dk_at dksX3_one_6 9 rfl rfl)
theorem dX3_one_148 : decode cX3_one 148 = .ok (.aload_n 0, 1) := dk_42 (dk_at dksX3_one_6 12 rfl rfl)
theorem dX3_one_149 : decode cX3_one 149 = .ok (.invokevirtual 174, 3) := dk_182 0 174 (dk_at dksX3_one_6 13 rfl rfl)
theorem dX3_one_152 : decode cX3_one 152 = .ok (.astore 4, 2) := dk_58 4 (dk_at dksX3_one_6 16 rfl rfl)
theorem dX3_one_154 : decode cX3_one 154 = .ok (.iload_n 3, 1) := dk_29 (dk_at dksX3_one_6 18 rfl rfl)
theorem dX3_one_155 : decode cX3_one 155 = .ok (.sipush 215, 3) := dk_17 0 215 (dk_at dksX3_one_6 19 rfl rfl)
theorem dX3_one_158 : decode cX3_one 158 = .ok (.if_icmp .ne 15, 3) := dk_160 0 15 (dk_at dksX3_one_7 0 rfl rfl)
theorem dX3_one_161 : decode cX3_one 161 = .ok (.new 213, 3) := dk_187 0 213 (dk_at dksX3_one_7 3 rfl rfl)
theorem dX3_one_164 : decode cX3_one 164 = .ok (.dup, 1) := dk_89 (dk_at dksX3_one_7 6 rfl rfl)
theorem dX3_one_165 : decode cX3_one 165 = .ok (.aload 4, 2) := dk_25 4 (dk_at dksX3_one_7 7 rfl rfl)
theorem dX3_one_167 : decode cX3_one 167 = .ok (.invokespecial 215, 3) := dk_183 0 215 (dk_at dksX3_one_7 9 rfl rfl)
theorem dX3_one_170 : decode cX3_one 170 = .ok (.goto 12, 3) := dk_167 0 12 (dk_at dksX3_one_7 12 rfl rfl)
theorem dX3_one_173 : decode cX3_one 173 = .ok (.new 216, 3) := dk_187 0 216 (dk_at dksX3_one_7 15 rfl rfl)
theorem dX3_one_176 : decode cX3_one 176 = .ok (.dup, 1) := dk_89 (dk_at dksX3_one_7 18 rfl rfl)
theorem dX3_one_177 : decode cX3_one 177 = .ok (.aload 4, 2) := dk_25 4 (dk_at dksX3_one_7 19 rfl rfl)
theorem dX3_one_179 : decode cX3_one 179 = .ok (.invokespecial 218, 3) := dk_183 0 218 (dk_at dksX3_one_7 21 rfl rfl)
theorem dX3_one_182 : decode cX3_one 182 = .ok (.astore_n 2, 1) := dk_77 (dk_at dksX3_one_8 0 rfl rfl)
theorem dX3_one_183 : decode cX3_one 183 = .ok (.goto 9, 3) := dk_167 0 9 (dk_at dksX3_one_8 1 rfl rfl)
theorem dX3_one_186 : decode cX3_one 186 = .ok (.aload_n 0, 1) := dk_42 (dk_at dksX3_one_8 4 rfl rfl)
theorem dX3_one_187 : decode cX3_one 187 = .ok (.iconst 1, 1) := dk_4 (dk_at dksX3_one_8 5 rfl rfl)
theorem dX3_one_188 : decode cX3_one 188 = .ok (.invokevirtual 70, 3) := dk_182 0 70 (dk_at dksX3_one_8 6 rfl rfl)
theorem dX3_one_191 : decode cX3_one 191 = .ok (.athrow, 1) := dk_191 (dk_at dksX3_one_8 9 rfl rfl)
theorem dX3_one_192 : decode cX3_one 192 = .ok (.aload_n 0, 1) := dk_42 (dk_at dksX3_one_8 10 rfl rfl)
theorem dX3_one_193 : decode cX3_one 193 = .ok (.dup, 1) := dk_89 (dk_at dksX3_one_8 11 rfl rfl)
theorem dX3_one_194 : decode cX3_one 194 = .ok (.getfield 77, 3) := dk_180 0 77 (dk_at dksX3_one_8 12 rfl rfl)
theorem dX3_one_197 : decode cX3_one 197 = .ok (.iconst 1, 1) := dk_4 (dk_at dksX3_one_8 15 rfl rfl)
theorem dX3_one_198 : decode cX3_one 198 = .ok (.isub, 1) := dk_100 (dk_at dksX3_one_8 16 rfl rfl)
theorem dX3_one_199 : decode cX3_one 199 = .ok (.putfield 77, 3) := dk_181 0 77 (dk_at dksX3_one_8 17 rfl rfl)
theorem dX3_one_202 : decode cX3_one 202 = .ok (.aload_n 2, 1) := dk_44 (dk_at dksX3_one_8 20 rfl rfl)
theorem dX3_one_203 : decode cX3_one 203 = .ok (.areturn, 1) := dk_176 (dk_at dksX3_one_8 21 rfl rfl)
abbrev cX3_number : ByteArray := prog_17_method_8_code
def yX3_number : MethodName := ⟨RX3, "number", "(II)I"⟩
def dkwX3_number_2 : List UInt8 := [172]
abbrev dktX3_number_2 : List UInt8 := dkwX3_number_2 ++ []
def dkwX3_number_1 : List UInt8 := [42, 180, 0, 43, 28, 164, 0, 9, 42, 5, 182, 0, 70, 191, 42, 180, 0, 43, 62, 42, 182, 0, 74, 29]
abbrev dktX3_number_1 : List UInt8 := dkwX3_number_1 ++ dktX3_number_2
def dkwX3_number_0 : List UInt8 := [42, 180, 0, 25, 17, 1, 44, 159, 0, 9, 42, 4, 182, 0, 70, 191, 42, 180, 0, 43, 27, 161, 0, 11]
abbrev dktX3_number_0 : List UInt8 := dkwX3_number_0 ++ dktX3_number_1
theorem dksX3_number_0 : cX3_number.data.toList.drop 0 = dktX3_number_0 := by decide +kernel
theorem dksX3_number_1 : cX3_number.data.toList.drop 24 = dktX3_number_1 := dk_seg dksX3_number_0 24 rfl rfl
theorem dksX3_number_2 : cX3_number.data.toList.drop 48 = dktX3_number_2 := dk_seg dksX3_number_1 24 rfl rfl
theorem dX3_number_0 : decode cX3_number 0 = .ok (.aload_n 0, 1) := dk_42 (dk_at dksX3_number_0 0 rfl rfl)
theorem dX3_number_1 : decode cX3_number 1 = .ok (.getfield 25, 3) := dk_180 0 25 (dk_at dksX3_number_0 1 rfl rfl)
theorem dX3_number_4 : decode cX3_number 4 = .ok (.sipush 300, 3) := dk_17 1 44 (dk_at dksX3_number_0 4 rfl rfl)
theorem dX3_number_7 : decode cX3_number 7 = .ok (.if_icmp .eq 9, 3) := dk_159 0 9 (dk_at dksX3_number_0 7 rfl rfl)
theorem dX3_number_10 : decode cX3_number 10 = .ok (.aload_n 0, 1) := dk_42 (dk_at dksX3_number_0 10 rfl rfl)
theorem dX3_number_11 : decode cX3_number 11 = .ok (.iconst 1, 1) := dk_4 (dk_at dksX3_number_0 11 rfl rfl)
theorem dX3_number_12 : decode cX3_number 12 = .ok (.invokevirtual 70, 3) := dk_182 0 70 (dk_at dksX3_number_0 12 rfl rfl)
theorem dX3_number_15 : decode cX3_number 15 = .ok (.athrow, 1) := dk_191 (dk_at dksX3_number_0 15 rfl rfl)
theorem dX3_number_16 : decode cX3_number 16 = .ok (.aload_n 0, 1) := dk_42 (dk_at dksX3_number_0 16 rfl rfl)
theorem dX3_number_17 : decode cX3_number 17 = .ok (.getfield 43, 3) := dk_180 0 43 (dk_at dksX3_number_0 17 rfl rfl)
theorem dX3_number_20 : decode cX3_number 20 = .ok (.iload_n 1, 1) := dk_27 (dk_at dksX3_number_0 20 rfl rfl)
theorem dX3_number_21 : decode cX3_number 21 = .ok (.if_icmp .lt 11, 3) := dk_161 0 11 (dk_at dksX3_number_0 21 rfl rfl)
theorem dX3_number_24 : decode cX3_number 24 = .ok (.aload_n 0, 1) := dk_42 (dk_at dksX3_number_1 0 rfl rfl)
theorem dX3_number_25 : decode cX3_number 25 = .ok (.getfield 43, 3) := dk_180 0 43 (dk_at dksX3_number_1 1 rfl rfl)
theorem dX3_number_28 : decode cX3_number 28 = .ok (.iload_n 2, 1) := dk_28 (dk_at dksX3_number_1 4 rfl rfl)
theorem dX3_number_29 : decode cX3_number 29 = .ok (.if_icmp .le 9, 3) := dk_164 0 9 (dk_at dksX3_number_1 5 rfl rfl)
theorem dX3_number_32 : decode cX3_number 32 = .ok (.aload_n 0, 1) := dk_42 (dk_at dksX3_number_1 8 rfl rfl)
theorem dX3_number_33 : decode cX3_number 33 = .ok (.iconst 2, 1) := dk_5 (dk_at dksX3_number_1 9 rfl rfl)
theorem dX3_number_34 : decode cX3_number 34 = .ok (.invokevirtual 70, 3) := dk_182 0 70 (dk_at dksX3_number_1 10 rfl rfl)
theorem dX3_number_37 : decode cX3_number 37 = .ok (.athrow, 1) := dk_191 (dk_at dksX3_number_1 13 rfl rfl)
theorem dX3_number_38 : decode cX3_number 38 = .ok (.aload_n 0, 1) := dk_42 (dk_at dksX3_number_1 14 rfl rfl)
theorem dX3_number_39 : decode cX3_number 39 = .ok (.getfield 43, 3) := dk_180 0 43 (dk_at dksX3_number_1 15 rfl rfl)
theorem dX3_number_42 : decode cX3_number 42 = .ok (.istore_n 3, 1) := dk_62 (dk_at dksX3_number_1 18 rfl rfl)
theorem dX3_number_43 : decode cX3_number 43 = .ok (.aload_n 0, 1) := dk_42 (dk_at dksX3_number_1 19 rfl rfl)
theorem dX3_number_44 : decode cX3_number 44 = .ok (.invokevirtual 74, 3) := dk_182 0 74 (dk_at dksX3_number_1 20 rfl rfl)
theorem dX3_number_47 : decode cX3_number 47 = .ok (.iload_n 3, 1) := dk_29 (dk_at dksX3_number_1 23 rfl rfl)
theorem dX3_number_48 : decode cX3_number 48 = .ok (.ireturn, 1) := dk_172 (dk_at dksX3_number_2 0 rfl rfl)
abbrev cX3_choice : ByteArray := prog_17_method_21_code
def yX3_choice : MethodName := ⟨RX3, "choice", "()LRailingsCount$Sum;"⟩
def dkwX3_choice_2 : List UInt8 := [100, 181, 0, 77, 187, 0, 189, 89, 43, 44, 45, 183, 0, 191, 176]
abbrev dktX3_choice_2 : List UInt8 := dkwX3_choice_2 ++ []
def dkwX3_choice_1 : List UInt8 := [17, 0, 218, 182, 0, 111, 42, 182, 0, 93, 78, 42, 17, 0, 219, 182, 0, 111, 42, 89, 180, 0, 77, 4]
abbrev dktX3_choice_1 : List UInt8 := dkwX3_choice_1 ++ dktX3_choice_2
def dkwX3_choice_0 : List UInt8 := [42, 182, 0, 147, 42, 182, 0, 186, 76, 42, 17, 0, 217, 182, 0, 111, 42, 182, 0, 93, 77, 42]
abbrev dktX3_choice_0 : List UInt8 := dkwX3_choice_0 ++ dktX3_choice_1
theorem dksX3_choice_0 : cX3_choice.data.toList.drop 0 = dktX3_choice_0 := by decide +kernel
theorem dksX3_choice_1 : cX3_choice.data.toList.drop 22 = dktX3_choice_1 := dk_seg dksX3_choice_0 22 rfl rfl
theorem dksX3_choice_2 : cX3_choice.data.toList.drop 46 = dktX3_choice_2 := dk_seg dksX3_choice_1 24 rfl rfl
theorem dX3_choice_0 : decode cX3_choice 0 = .ok (.aload_n 0, 1) := dk_42 (dk_at dksX3_choice_0 0 rfl rfl)
theorem dX3_choice_1 : decode cX3_choice 1 = .ok (.invokevirtual 147, 3) := dk_182 0 147 (dk_at dksX3_choice_0 1 rfl rfl)
theorem dX3_choice_4 : decode cX3_choice 4 = .ok (.aload_n 0, 1) := dk_42 (dk_at dksX3_choice_0 4 rfl rfl)
theorem dX3_choice_5 : decode cX3_choice 5 = .ok (.invokevirtual 186, 3) := dk_182 0 186 (dk_at dksX3_choice_0 5 rfl rfl)
theorem dX3_choice_8 : decode cX3_choice 8 = .ok (.astore_n 1, 1) := dk_76 (dk_at dksX3_choice_0 8 rfl rfl)
theorem dX3_choice_9 : decode cX3_choice 9 = .ok (.aload_n 0, 1) := dk_42 (dk_at dksX3_choice_0 9 rfl rfl)
theorem dX3_choice_10 : decode cX3_choice 10 = .ok (.sipush 217, 3) := dk_17 0 217 (dk_at dksX3_choice_0 10 rfl rfl)
theorem dX3_choice_13 : decode cX3_choice 13 = .ok (.invokevirtual 111, 3) := dk_182 0 111 (dk_at dksX3_choice_0 13 rfl rfl)
theorem dX3_choice_16 : decode cX3_choice 16 = .ok (.aload_n 0, 1) := dk_42 (dk_at dksX3_choice_0 16 rfl rfl)
theorem dX3_choice_17 : decode cX3_choice 17 = .ok (.invokevirtual 93, 3) := dk_182 0 93 (dk_at dksX3_choice_0 17 rfl rfl)
theorem dX3_choice_20 : decode cX3_choice 20 = .ok (.astore_n 2, 1) := dk_77 (dk_at dksX3_choice_0 20 rfl rfl)
theorem dX3_choice_21 : decode cX3_choice 21 = .ok (.aload_n 0, 1) := dk_42 (dk_at dksX3_choice_0 21 rfl rfl)
theorem dX3_choice_22 : decode cX3_choice 22 = .ok (.sipush 218, 3) := dk_17 0 218 (dk_at dksX3_choice_1 0 rfl rfl)
theorem dX3_choice_25 : decode cX3_choice 25 = .ok (.invokevirtual 111, 3) := dk_182 0 111 (dk_at dksX3_choice_1 3 rfl rfl)
theorem dX3_choice_28 : decode cX3_choice 28 = .ok (.aload_n 0, 1) := dk_42 (dk_at dksX3_choice_1 6 rfl rfl)
theorem dX3_choice_29 : decode cX3_choice 29 = .ok (.invokevirtual 93, 3) := dk_182 0 93 (dk_at dksX3_choice_1 7 rfl rfl)
theorem dX3_choice_32 : decode cX3_choice 32 = .ok (.astore_n 3, 1) := dk_78 (dk_at dksX3_choice_1 10 rfl rfl)
theorem dX3_choice_33 : decode cX3_choice 33 = .ok (.aload_n 0, 1) := dk_42 (dk_at dksX3_choice_1 11 rfl rfl)
theorem dX3_choice_34 : decode cX3_choice 34 = .ok (.sipush 219, 3) := dk_17 0 219 (dk_at dksX3_choice_1 12 rfl rfl)
theorem dX3_choice_37 : decode cX3_choice 37 = .ok (.invokevirtual 111, 3) := dk_182 0 111 (dk_at dksX3_choice_1 15 rfl rfl)
theorem dX3_choice_40 : decode cX3_choice 40 = .ok (.aload_n 0, 1) := dk_42 (dk_at dksX3_choice_1 18 rfl rfl)
theorem dX3_choice_41 : decode cX3_choice 41 = .ok (.dup, 1) := dk_89 (dk_at dksX3_choice_1 19 rfl rfl)
theorem dX3_choice_42 : decode cX3_choice 42 = .ok (.getfield 77, 3) := dk_180 0 77 (dk_at dksX3_choice_1 20 rfl rfl)
theorem dX3_choice_45 : decode cX3_choice 45 = .ok (.iconst 1, 1) := dk_4 (dk_at dksX3_choice_1 23 rfl rfl)
theorem dX3_choice_46 : decode cX3_choice 46 = .ok (.isub, 1) := dk_100 (dk_at dksX3_choice_2 0 rfl rfl)
theorem dX3_choice_47 : decode cX3_choice 47 = .ok (.putfield 77, 3) := dk_181 0 77 (dk_at dksX3_choice_2 1 rfl rfl)
theorem dX3_choice_50 : decode cX3_choice 50 = .ok (.new 189, 3) := dk_187 0 189 (dk_at dksX3_choice_2 4 rfl rfl)
theorem dX3_choice_53 : decode cX3_choice 53 = .ok (.dup, 1) := dk_89 (dk_at dksX3_choice_2 7 rfl rfl)
theorem dX3_choice_54 : decode cX3_choice 54 = .ok (.aload_n 1, 1) := dk_43 (dk_at dksX3_choice_2 8 rfl rfl)
theorem dX3_choice_55 : decode cX3_choice 55 = .ok (.aload_n 2, 1) := dk_44 (dk_at dksX3_choice_2 9 rfl rfl)
theorem dX3_choice_56 : decode cX3_choice 56 = .ok (.aload_n 3, 1) := dk_45 (dk_at dksX3_choice_2 10 rfl rfl)
theorem dX3_choice_57 : decode cX3_choice 57 = .ok (.invokespecial 191, 3) := dk_183 0 191 (dk_at dksX3_choice_2 11 rfl rfl)
theorem dX3_choice_60 : decode cX3_choice 60 = .ok (.areturn, 1) := dk_176 (dk_at dksX3_choice_2 14 rfl rfl)
abbrev cX3_opens : ByteArray := prog_17_method_9_code
def yX3_opens : MethodName := ⟨RX3, "opens", "()V"⟩
def dkwX3_opens_1 : List UInt8 := [181, 0, 77, 42, 182, 0, 74, 177]
abbrev dktX3_opens_1 : List UInt8 := dkwX3_opens_1 ++ []
def dkwX3_opens_0 : List UInt8 := [42, 180, 0, 77, 16, 8, 160, 0, 9, 42, 6, 182, 0, 70, 191, 42, 89, 180, 0, 77, 4, 96]
abbrev dktX3_opens_0 : List UInt8 := dkwX3_opens_0 ++ dktX3_opens_1
theorem dksX3_opens_0 : cX3_opens.data.toList.drop 0 = dktX3_opens_0 := by decide +kernel
theorem dksX3_opens_1 : cX3_opens.data.toList.drop 22 = dktX3_opens_1 := dk_seg dksX3_opens_0 22 rfl rfl
theorem dX3_opens_0 : decode cX3_opens 0 = .ok (.aload_n 0, 1) := dk_42 (dk_at dksX3_opens_0 0 rfl rfl)
theorem dX3_opens_1 : decode cX3_opens 1 = .ok (.getfield 77, 3) := dk_180 0 77 (dk_at dksX3_opens_0 1 rfl rfl)
theorem dX3_opens_4 : decode cX3_opens 4 = .ok (.bipush 8, 2) := dk_16 8 (dk_at dksX3_opens_0 4 rfl rfl)
theorem dX3_opens_6 : decode cX3_opens 6 = .ok (.if_icmp .ne 9, 3) := dk_160 0 9 (dk_at dksX3_opens_0 6 rfl rfl)
theorem dX3_opens_9 : decode cX3_opens 9 = .ok (.aload_n 0, 1) := dk_42 (dk_at dksX3_opens_0 9 rfl rfl)
theorem dX3_opens_10 : decode cX3_opens 10 = .ok (.iconst 3, 1) := dk_6 (dk_at dksX3_opens_0 10 rfl rfl)
theorem dX3_opens_11 : decode cX3_opens 11 = .ok (.invokevirtual 70, 3) := dk_182 0 70 (dk_at dksX3_opens_0 11 rfl rfl)
theorem dX3_opens_14 : decode cX3_opens 14 = .ok (.athrow, 1) := dk_191 (dk_at dksX3_opens_0 14 rfl rfl)
theorem dX3_opens_15 : decode cX3_opens 15 = .ok (.aload_n 0, 1) := dk_42 (dk_at dksX3_opens_0 15 rfl rfl)
theorem dX3_opens_16 : decode cX3_opens 16 = .ok (.dup, 1) := dk_89 (dk_at dksX3_opens_0 16 rfl rfl)
theorem dX3_opens_17 : decode cX3_opens 17 = .ok (.getfield 77, 3) := dk_180 0 77 (dk_at dksX3_opens_0 17 rfl rfl)
theorem dX3_opens_20 : decode cX3_opens 20 = .ok (.iconst 1, 1) := dk_4 (dk_at dksX3_opens_0 20 rfl rfl)
theorem dX3_opens_21 : decode cX3_opens 21 = .ok (.iadd, 1) := dk_96 (dk_at dksX3_opens_0 21 rfl rfl)
theorem dX3_opens_22 : decode cX3_opens 22 = .ok (.putfield 77, 3) := dk_181 0 77 (dk_at dksX3_opens_1 0 rfl rfl)
theorem dX3_opens_25 : decode cX3_opens 25 = .ok (.aload_n 0, 1) := dk_42 (dk_at dksX3_opens_1 3 rfl rfl)
theorem dX3_opens_26 : decode cX3_opens 26 = .ok (.invokevirtual 74, 3) := dk_182 0 74 (dk_at dksX3_opens_1 4 rfl rfl)
theorem dX3_opens_29 : decode cX3_opens 29 = .ok (.return_, 1) := dk_177 (dk_at dksX3_opens_1 7 rfl rfl)
abbrev cX3_either : ByteArray := prog_17_method_13_code
def yX3_either : MethodName := ⟨RX3, "either", "()LRailingsCount$Asked;"⟩
def dkwX3_either_2 : List UInt8 := [160, 0, 14, 43, 3, 182, 0, 133, 192, 0, 137, 167, 0, 12, 187, 0, 139, 89, 3, 43, 183, 0, 141, 176]
abbrev dktX3_either_2 : List UInt8 := dkwX3_either_2 ++ []
def dkwX3_either_1 : List UInt8 := [160, 0, 19, 42, 182, 0, 74, 43, 42, 182, 0, 127, 182, 0, 105, 87, 167, 255, 233, 43, 182, 0, 131, 4]
abbrev dktX3_either_1 : List UInt8 := dkwX3_either_1 ++ dktX3_either_2
def dkwX3_either_0 : List UInt8 := [187, 0, 106, 89, 183, 0, 126, 76, 43, 42, 182, 0, 127, 182, 0, 105, 87, 42, 180, 0, 25, 17, 0, 220]
abbrev dktX3_either_0 : List UInt8 := dkwX3_either_0 ++ dktX3_either_1
theorem dksX3_either_0 : cX3_either.data.toList.drop 0 = dktX3_either_0 := by decide +kernel
theorem dksX3_either_1 : cX3_either.data.toList.drop 24 = dktX3_either_1 := dk_seg dksX3_either_0 24 rfl rfl
theorem dksX3_either_2 : cX3_either.data.toList.drop 48 = dktX3_either_2 := dk_seg dksX3_either_1 24 rfl rfl
theorem dX3_either_0 : decode cX3_either 0 = .ok (.new 106, 3) := dk_187 0 106 (dk_at dksX3_either_0 0 rfl rfl)
theorem dX3_either_3 : decode cX3_either 3 = .ok (.dup, 1) := dk_89 (dk_at dksX3_either_0 3 rfl rfl)
theorem dX3_either_4 : decode cX3_either 4 = .ok (.invokespecial 126, 3) := dk_183 0 126 (dk_at dksX3_either_0 4 rfl rfl)
theorem dX3_either_7 : decode cX3_either 7 = .ok (.astore_n 1, 1) := dk_76 (dk_at dksX3_either_0 7 rfl rfl)
theorem dX3_either_8 : decode cX3_either 8 = .ok (.aload_n 1, 1) := dk_43 (dk_at dksX3_either_0 8 rfl rfl)
theorem dX3_either_9 : decode cX3_either 9 = .ok (.aload_n 0, 1) := dk_42 (dk_at dksX3_either_0 9 rfl rfl)
theorem dX3_either_10 : decode cX3_either 10 = .ok (.invokevirtual 127, 3) := dk_182 0 127 (dk_at dksX3_either_0 10 rfl rfl)
theorem dX3_either_13 : decode cX3_either 13 = .ok (.invokevirtual 105, 3) := dk_182 0 105 (dk_at dksX3_either_0 13 rfl rfl)
theorem dX3_either_16 : decode cX3_either 16 = .ok (.pop, 1) := dk_87 (dk_at dksX3_either_0 16 rfl rfl)
theorem dX3_either_17 : decode cX3_either 17 = .ok (.aload_n 0, 1) := dk_42 (dk_at dksX3_either_0 17 rfl rfl)
theorem dX3_either_18 : decode cX3_either 18 = .ok (.getfield 25, 3) := dk_180 0 25 (dk_at dksX3_either_0 18 rfl rfl)
theorem dX3_either_21 : decode cX3_either 21 = .ok (.sipush 220, 3) := dk_17 0 220 (dk_at dksX3_either_0 21 rfl rfl)
theorem dX3_either_24 : decode cX3_either 24 = .ok (.if_icmp .ne 19, 3) := dk_160 0 19 (dk_at dksX3_either_1 0 rfl rfl)
theorem dX3_either_27 : decode cX3_either 27 = .ok (.aload_n 0, 1) := dk_42 (dk_at dksX3_either_1 3 rfl rfl)
theorem dX3_either_28 : decode cX3_either 28 = .ok (.invokevirtual 74, 3) := dk_182 0 74 (dk_at dksX3_either_1 4 rfl rfl)
theorem dX3_either_31 : decode cX3_either 31 = .ok (.aload_n 1, 1) := dk_43 (dk_at dksX3_either_1 7 rfl rfl)
theorem dX3_either_32 : decode cX3_either 32 = .ok (.aload_n 0, 1) := dk_42 (dk_at dksX3_either_1 8 rfl rfl)
theorem dX3_either_33 : decode cX3_either 33 = .ok (.invokevirtual 127, 3) := dk_182 0 127 (dk_at dksX3_either_1 9 rfl rfl)
theorem dX3_either_36 : decode cX3_either 36 = .ok (.invokevirtual 105, 3) := dk_182 0 105 (dk_at dksX3_either_1 12 rfl rfl)
theorem dX3_either_39 : decode cX3_either 39 = .ok (.pop, 1) := dk_87 (dk_at dksX3_either_1 15 rfl rfl)
theorem dX3_either_40 : decode cX3_either 40 = .ok (.goto (-23), 3) := dk_167 255 233 (dk_at dksX3_either_1 16 rfl rfl)
theorem dX3_either_43 : decode cX3_either 43 = .ok (.aload_n 1, 1) := dk_43 (dk_at dksX3_either_1 19 rfl rfl)
theorem dX3_either_44 : decode cX3_either 44 = .ok (.invokevirtual 131, 3) := dk_182 0 131 (dk_at dksX3_either_1 20 rfl rfl)
theorem dX3_either_47 : decode cX3_either 47 = .ok (.iconst 1, 1) := dk_4 (dk_at dksX3_either_1 23 rfl rfl)
theorem dX3_either_48 : decode cX3_either 48 = .ok (.if_icmp .ne 14, 3) := dk_160 0 14 (dk_at dksX3_either_2 0 rfl rfl)
theorem dX3_either_51 : decode cX3_either 51 = .ok (.aload_n 1, 1) := dk_43 (dk_at dksX3_either_2 3 rfl rfl)
theorem dX3_either_52 : decode cX3_either 52 = .ok (.iconst 0, 1) := dk_3 (dk_at dksX3_either_2 4 rfl rfl)
theorem dX3_either_53 : decode cX3_either 53 = .ok (.invokevirtual 133, 3) := dk_182 0 133 (dk_at dksX3_either_2 5 rfl rfl)
theorem dX3_either_56 : decode cX3_either 56 = .ok (.checkcast 137, 3) := dk_192 0 137 (dk_at dksX3_either_2 8 rfl rfl)
theorem dX3_either_59 : decode cX3_either 59 = .ok (.goto 12, 3) := dk_167 0 12 (dk_at dksX3_either_2 11 rfl rfl)
theorem dX3_either_62 : decode cX3_either 62 = .ok (.new 139, 3) := dk_187 0 139 (dk_at dksX3_either_2 14 rfl rfl)
theorem dX3_either_65 : decode cX3_either 65 = .ok (.dup, 1) := dk_89 (dk_at dksX3_either_2 17 rfl rfl)
theorem dX3_either_66 : decode cX3_either 66 = .ok (.iconst 0, 1) := dk_3 (dk_at dksX3_either_2 18 rfl rfl)
theorem dX3_either_67 : decode cX3_either 67 = .ok (.aload_n 1, 1) := dk_43 (dk_at dksX3_either_2 19 rfl rfl)
theorem dX3_either_68 : decode cX3_either 68 = .ok (.invokespecial 141, 3) := dk_183 0 141 (dk_at dksX3_either_2 20 rfl rfl)
theorem dX3_either_71 : decode cX3_either 71 = .ok (.areturn, 1) := dk_176 (dk_at dksX3_either_2 23 rfl rfl)
abbrev cX3_both : ByteArray := prog_17_method_14_code
def yX3_both : MethodName := ⟨RX3, "both", "()LRailingsCount$Asked;"⟩
def dkwX3_both_2 : List UInt8 := [160, 0, 14, 43, 3, 182, 0, 133, 192, 0, 137, 167, 0, 12, 187, 0, 139, 89, 4, 43, 183, 0, 141, 176]
abbrev dktX3_both_2 : List UInt8 := dkwX3_both_2 ++ []
def dkwX3_both_1 : List UInt8 := [160, 0, 19, 42, 182, 0, 74, 43, 42, 182, 0, 144, 182, 0, 105, 87, 167, 255, 233, 43, 182, 0, 131, 4]
abbrev dktX3_both_1 : List UInt8 := dkwX3_both_1 ++ dktX3_both_2
def dkwX3_both_0 : List UInt8 := [187, 0, 106, 89, 183, 0, 126, 76, 43, 42, 182, 0, 144, 182, 0, 105, 87, 42, 180, 0, 25, 17, 0, 221]
abbrev dktX3_both_0 : List UInt8 := dkwX3_both_0 ++ dktX3_both_1
theorem dksX3_both_0 : cX3_both.data.toList.drop 0 = dktX3_both_0 := by decide +kernel
theorem dksX3_both_1 : cX3_both.data.toList.drop 24 = dktX3_both_1 := dk_seg dksX3_both_0 24 rfl rfl
theorem dksX3_both_2 : cX3_both.data.toList.drop 48 = dktX3_both_2 := dk_seg dksX3_both_1 24 rfl rfl
theorem dX3_both_0 : decode cX3_both 0 = .ok (.new 106, 3) := dk_187 0 106 (dk_at dksX3_both_0 0 rfl rfl)
theorem dX3_both_3 : decode cX3_both 3 = .ok (.dup, 1) := dk_89 (dk_at dksX3_both_0 3 rfl rfl)
theorem dX3_both_4 : decode cX3_both 4 = .ok (.invokespecial 126, 3) := dk_183 0 126 (dk_at dksX3_both_0 4 rfl rfl)
theorem dX3_both_7 : decode cX3_both 7 = .ok (.astore_n 1, 1) := dk_76 (dk_at dksX3_both_0 7 rfl rfl)
theorem dX3_both_8 : decode cX3_both 8 = .ok (.aload_n 1, 1) := dk_43 (dk_at dksX3_both_0 8 rfl rfl)
theorem dX3_both_9 : decode cX3_both 9 = .ok (.aload_n 0, 1) := dk_42 (dk_at dksX3_both_0 9 rfl rfl)
theorem dX3_both_10 : decode cX3_both 10 = .ok (.invokevirtual 144, 3) := dk_182 0 144 (dk_at dksX3_both_0 10 rfl rfl)
theorem dX3_both_13 : decode cX3_both 13 = .ok (.invokevirtual 105, 3) := dk_182 0 105 (dk_at dksX3_both_0 13 rfl rfl)
theorem dX3_both_16 : decode cX3_both 16 = .ok (.pop, 1) := dk_87 (dk_at dksX3_both_0 16 rfl rfl)
theorem dX3_both_17 : decode cX3_both 17 = .ok (.aload_n 0, 1) := dk_42 (dk_at dksX3_both_0 17 rfl rfl)
theorem dX3_both_18 : decode cX3_both 18 = .ok (.getfield 25, 3) := dk_180 0 25 (dk_at dksX3_both_0 18 rfl rfl)
theorem dX3_both_21 : decode cX3_both 21 = .ok (.sipush 221, 3) := dk_17 0 221 (dk_at dksX3_both_0 21 rfl rfl)
theorem dX3_both_24 : decode cX3_both 24 = .ok (.if_icmp .ne 19, 3) := dk_160 0 19 (dk_at dksX3_both_1 0 rfl rfl)
theorem dX3_both_27 : decode cX3_both 27 = .ok (.aload_n 0, 1) := dk_42 (dk_at dksX3_both_1 3 rfl rfl)
theorem dX3_both_28 : decode cX3_both 28 = .ok (.invokevirtual 74, 3) := dk_182 0 74 (dk_at dksX3_both_1 4 rfl rfl)
theorem dX3_both_31 : decode cX3_both 31 = .ok (.aload_n 1, 1) := dk_43 (dk_at dksX3_both_1 7 rfl rfl)
theorem dX3_both_32 : decode cX3_both 32 = .ok (.aload_n 0, 1) := dk_42 (dk_at dksX3_both_1 8 rfl rfl)
theorem dX3_both_33 : decode cX3_both 33 = .ok (.invokevirtual 144, 3) := dk_182 0 144 (dk_at dksX3_both_1 9 rfl rfl)
theorem dX3_both_36 : decode cX3_both 36 = .ok (.invokevirtual 105, 3) := dk_182 0 105 (dk_at dksX3_both_1 12 rfl rfl)
theorem dX3_both_39 : decode cX3_both 39 = .ok (.pop, 1) := dk_87 (dk_at dksX3_both_1 15 rfl rfl)
theorem dX3_both_40 : decode cX3_both 40 = .ok (.goto (-23), 3) := dk_167 255 233 (dk_at dksX3_both_1 16 rfl rfl)
theorem dX3_both_43 : decode cX3_both 43 = .ok (.aload_n 1, 1) := dk_43 (dk_at dksX3_both_1 19 rfl rfl)
theorem dX3_both_44 : decode cX3_both 44 = .ok (.invokevirtual 131, 3) := dk_182 0 131 (dk_at dksX3_both_1 20 rfl rfl)
theorem dX3_both_47 : decode cX3_both 47 = .ok (.iconst 1, 1) := dk_4 (dk_at dksX3_both_1 23 rfl rfl)
theorem dX3_both_48 : decode cX3_both 48 = .ok (.if_icmp .ne 14, 3) := dk_160 0 14 (dk_at dksX3_both_2 0 rfl rfl)
theorem dX3_both_51 : decode cX3_both 51 = .ok (.aload_n 1, 1) := dk_43 (dk_at dksX3_both_2 3 rfl rfl)
theorem dX3_both_52 : decode cX3_both 52 = .ok (.iconst 0, 1) := dk_3 (dk_at dksX3_both_2 4 rfl rfl)
theorem dX3_both_53 : decode cX3_both 53 = .ok (.invokevirtual 133, 3) := dk_182 0 133 (dk_at dksX3_both_2 5 rfl rfl)
theorem dX3_both_56 : decode cX3_both 56 = .ok (.checkcast 137, 3) := dk_192 0 137 (dk_at dksX3_both_2 8 rfl rfl)
theorem dX3_both_59 : decode cX3_both 59 = .ok (.goto 12, 3) := dk_167 0 12 (dk_at dksX3_both_2 11 rfl rfl)
theorem dX3_both_62 : decode cX3_both 62 = .ok (.new 139, 3) := dk_187 0 139 (dk_at dksX3_both_2 14 rfl rfl)
theorem dX3_both_65 : decode cX3_both 65 = .ok (.dup, 1) := dk_89 (dk_at dksX3_both_2 17 rfl rfl)
theorem dX3_both_66 : decode cX3_both 66 = .ok (.iconst 1, 1) := dk_4 (dk_at dksX3_both_2 18 rfl rfl)
theorem dX3_both_67 : decode cX3_both 67 = .ok (.aload_n 1, 1) := dk_43 (dk_at dksX3_both_2 19 rfl rfl)
theorem dX3_both_68 : decode cX3_both 68 = .ok (.invokespecial 141, 3) := dk_183 0 141 (dk_at dksX3_both_2 20 rfl rfl)
theorem dX3_both_71 : decode cX3_both 71 = .ok (.areturn, 1) := dk_176 (dk_at dksX3_both_2 23 rfl rfl)
abbrev cX3_ask : ByteArray := prog_17_method_15_code
def yX3_ask : MethodName := ⟨RX3, "ask", "()LRailingsCount$Asked;"⟩
def dkwX3_ask_4 : List UInt8 := [191, 42, 182, 0, 74, 187, 0, 155, 89, 28, 43, 42, 182, 0, 93, 183, 0, 157, 176]
abbrev dktX3_ask_4 : List UInt8 := dkwX3_ask_4 ++ []
def dkwX3_ask_3 : List UInt8 := [16, 35, 159, 0, 23, 28, 17, 1, 47, 159, 0, 16, 28, 17, 1, 48, 159, 0, 9, 42, 4, 182, 0, 70]
abbrev dktX3_ask_3 : List UInt8 := dkwX3_ask_3 ++ dktX3_ask_4
def dkwX3_ask_2 : List UInt8 := [180, 0, 25, 61, 28, 16, 60, 159, 0, 41, 28, 16, 62, 159, 0, 35, 28, 16, 61, 159, 0, 29, 28]
abbrev dktX3_ask_2 : List UInt8 := dkwX3_ask_2 ++ dktX3_ask_3
def dkwX3_ask_1 : List UInt8 := [183, 0, 152, 76, 42, 89, 180, 0, 77, 4, 100, 181, 0, 77, 43, 176, 42, 182, 0, 93, 76, 42]
abbrev dktX3_ask_1 : List UInt8 := dkwX3_ask_1 ++ dktX3_ask_2
def dkwX3_ask_0 : List UInt8 := [42, 180, 0, 25, 17, 0, 222, 160, 0, 31, 42, 182, 0, 147, 187, 0, 150, 89, 42, 182, 0, 144]
abbrev dktX3_ask_0 : List UInt8 := dkwX3_ask_0 ++ dktX3_ask_1
theorem dksX3_ask_0 : cX3_ask.data.toList.drop 0 = dktX3_ask_0 := by decide +kernel
theorem dksX3_ask_1 : cX3_ask.data.toList.drop 22 = dktX3_ask_1 := dk_seg dksX3_ask_0 22 rfl rfl
theorem dksX3_ask_2 : cX3_ask.data.toList.drop 44 = dktX3_ask_2 := dk_seg dksX3_ask_1 22 rfl rfl
theorem dksX3_ask_3 : cX3_ask.data.toList.drop 67 = dktX3_ask_3 := dk_seg dksX3_ask_2 23 rfl rfl
theorem dksX3_ask_4 : cX3_ask.data.toList.drop 91 = dktX3_ask_4 := dk_seg dksX3_ask_3 24 rfl rfl
theorem dX3_ask_0 : decode cX3_ask 0 = .ok (.aload_n 0, 1) := dk_42 (dk_at dksX3_ask_0 0 rfl rfl)
theorem dX3_ask_1 : decode cX3_ask 1 = .ok (.getfield 25, 3) := dk_180 0 25 (dk_at dksX3_ask_0 1 rfl rfl)
theorem dX3_ask_4 : decode cX3_ask 4 = .ok (.sipush 222, 3) := dk_17 0 222 (dk_at dksX3_ask_0 4 rfl rfl)
theorem dX3_ask_7 : decode cX3_ask 7 = .ok (.if_icmp .ne 31, 3) := dk_160 0 31 (dk_at dksX3_ask_0 7 rfl rfl)
theorem dX3_ask_10 : decode cX3_ask 10 = .ok (.aload_n 0, 1) := dk_42 (dk_at dksX3_ask_0 10 rfl rfl)
theorem dX3_ask_11 : decode cX3_ask 11 = .ok (.invokevirtual 147, 3) := dk_182 0 147 (dk_at dksX3_ask_0 11 rfl rfl)
theorem dX3_ask_14 : decode cX3_ask 14 = .ok (.new 150, 3) := dk_187 0 150 (dk_at dksX3_ask_0 14 rfl rfl)
theorem dX3_ask_17 : decode cX3_ask 17 = .ok (.dup, 1) := dk_89 (dk_at dksX3_ask_0 17 rfl rfl)
theorem dX3_ask_18 : decode cX3_ask 18 = .ok (.aload_n 0, 1) := dk_42 (dk_at dksX3_ask_0 18 rfl rfl)
theorem dX3_ask_19 : decode cX3_ask 19 = .ok (.invokevirtual 144, 3) := dk_182 0 144 (dk_at dksX3_ask_0 19 rfl rfl)
theorem dX3_ask_22 : decode cX3_ask 22 = .ok (.invokespecial 152, 3) := dk_183 0 152 (dk_at dksX3_ask_1 0 rfl rfl)
theorem dX3_ask_25 : decode cX3_ask 25 = .ok (.astore_n 1, 1) := dk_76 (dk_at dksX3_ask_1 3 rfl rfl)
theorem dX3_ask_26 : decode cX3_ask 26 = .ok (.aload_n 0, 1) := dk_42 (dk_at dksX3_ask_1 4 rfl rfl)
theorem dX3_ask_27 : decode cX3_ask 27 = .ok (.dup, 1) := dk_89 (dk_at dksX3_ask_1 5 rfl rfl)
theorem dX3_ask_28 : decode cX3_ask 28 = .ok (.getfield 77, 3) := dk_180 0 77 (dk_at dksX3_ask_1 6 rfl rfl)
theorem dX3_ask_31 : decode cX3_ask 31 = .ok (.iconst 1, 1) := dk_4 (dk_at dksX3_ask_1 9 rfl rfl)
theorem dX3_ask_32 : decode cX3_ask 32 = .ok (.isub, 1) := dk_100 (dk_at dksX3_ask_1 10 rfl rfl)
theorem dX3_ask_33 : decode cX3_ask 33 = .ok (.putfield 77, 3) := dk_181 0 77 (dk_at dksX3_ask_1 11 rfl rfl)
theorem dX3_ask_36 : decode cX3_ask 36 = .ok (.aload_n 1, 1) := dk_43 (dk_at dksX3_ask_1 14 rfl rfl)
theorem dX3_ask_37 : decode cX3_ask 37 = .ok (.areturn, 1) := dk_176 (dk_at dksX3_ask_1 15 rfl rfl)
theorem dX3_ask_38 : decode cX3_ask 38 = .ok (.aload_n 0, 1) := dk_42 (dk_at dksX3_ask_1 16 rfl rfl)
theorem dX3_ask_39 : decode cX3_ask 39 = .ok (.invokevirtual 93, 3) := dk_182 0 93 (dk_at dksX3_ask_1 17 rfl rfl)
theorem dX3_ask_42 : decode cX3_ask 42 = .ok (.astore_n 1, 1) := dk_76 (dk_at dksX3_ask_1 20 rfl rfl)
theorem dX3_ask_43 : decode cX3_ask 43 = .ok (.aload_n 0, 1) := dk_42 (dk_at dksX3_ask_1 21 rfl rfl)
theorem dX3_ask_44 : decode cX3_ask 44 = .ok (.getfield 25, 3) := dk_180 0 25 (dk_at dksX3_ask_2 0 rfl rfl)
theorem dX3_ask_47 : decode cX3_ask 47 = .ok (.istore_n 2, 1) := dk_61 (dk_at dksX3_ask_2 3 rfl rfl)
theorem dX3_ask_48 : decode cX3_ask 48 = .ok (.iload_n 2, 1) := dk_28 (dk_at dksX3_ask_2 4 rfl rfl)
theorem dX3_ask_49 : decode cX3_ask 49 = .ok (.bipush 60, 2) := dk_16 60 (dk_at dksX3_ask_2 5 rfl rfl)
theorem dX3_ask_51 : decode cX3_ask 51 = .ok (.if_icmp .eq 41, 3) := dk_159 0 41 (dk_at dksX3_ask_2 7 rfl rfl)
theorem dX3_ask_54 : decode cX3_ask 54 = .ok (.iload_n 2, 1) := dk_28 (dk_at dksX3_ask_2 10 rfl rfl)
theorem dX3_ask_55 : decode cX3_ask 55 = .ok (.bipush 62, 2) := dk_16 62 (dk_at dksX3_ask_2 11 rfl rfl)
theorem dX3_ask_57 : decode cX3_ask 57 = .ok (.if_icmp .eq 35, 3) := dk_159 0 35 (dk_at dksX3_ask_2 13 rfl rfl)
theorem dX3_ask_60 : decode cX3_ask 60 = .ok (.iload_n 2, 1) := dk_28 (dk_at dksX3_ask_2 16 rfl rfl)
theorem dX3_ask_61 : decode cX3_ask 61 = .ok (.bipush 61, 2) := dk_16 61 (dk_at dksX3_ask_2 17 rfl rfl)
theorem dX3_ask_63 : decode cX3_ask 63 = .ok (.if_icmp .eq 29, 3) := dk_159 0 29 (dk_at dksX3_ask_2 19 rfl rfl)
theorem dX3_ask_66 : decode cX3_ask 66 = .ok (.iload_n 2, 1) := dk_28 (dk_at dksX3_ask_2 22 rfl rfl)
theorem dX3_ask_67 : decode cX3_ask 67 = .ok (.bipush 35, 2) := dk_16 35 (dk_at dksX3_ask_3 0 rfl rfl)
theorem dX3_ask_69 : decode cX3_ask 69 = .ok (.if_icmp .eq 23, 3) := dk_159 0 23 (dk_at dksX3_ask_3 2 rfl rfl)
theorem dX3_ask_72 : decode cX3_ask 72 = .ok (.iload_n 2, 1) := dk_28 (dk_at dksX3_ask_3 5 rfl rfl)
theorem dX3_ask_73 : decode cX3_ask 73 = .ok (.sipush 303, 3) := dk_17 1 47 (dk_at dksX3_ask_3 6 rfl rfl)
theorem dX3_ask_76 : decode cX3_ask 76 = .ok (.if_icmp .eq 16, 3) := dk_159 0 16 (dk_at dksX3_ask_3 9 rfl rfl)
theorem dX3_ask_79 : decode cX3_ask 79 = .ok (.iload_n 2, 1) := dk_28 (dk_at dksX3_ask_3 12 rfl rfl)
theorem dX3_ask_80 : decode cX3_ask 80 = .ok (.sipush 304, 3) := dk_17 1 48 (dk_at dksX3_ask_3 13 rfl rfl)
theorem dX3_ask_83 : decode cX3_ask 83 = .ok (.if_icmp .eq 9, 3) := dk_159 0 9 (dk_at dksX3_ask_3 16 rfl rfl)
theorem dX3_ask_86 : decode cX3_ask 86 = .ok (.aload_n 0, 1) := dk_42 (dk_at dksX3_ask_3 19 rfl rfl)
theorem dX3_ask_87 : decode cX3_ask 87 = .ok (.iconst 1, 1) := dk_4 (dk_at dksX3_ask_3 20 rfl rfl)
theorem dX3_ask_88 : decode cX3_ask 88 = .ok (.invokevirtual 70, 3) := dk_182 0 70 (dk_at dksX3_ask_3 21 rfl rfl)
theorem dX3_ask_91 : decode cX3_ask 91 = .ok (.athrow, 1) := dk_191 (dk_at dksX3_ask_4 0 rfl rfl)
theorem dX3_ask_92 : decode cX3_ask 92 = .ok (.aload_n 0, 1) := dk_42 (dk_at dksX3_ask_4 1 rfl rfl)
theorem dX3_ask_93 : decode cX3_ask 93 = .ok (.invokevirtual 74, 3) := dk_182 0 74 (dk_at dksX3_ask_4 2 rfl rfl)
theorem dX3_ask_96 : decode cX3_ask 96 = .ok (.new 155, 3) := dk_187 0 155 (dk_at dksX3_ask_4 5 rfl rfl)
theorem dX3_ask_99 : decode cX3_ask 99 = .ok (.dup, 1) := dk_89 (dk_at dksX3_ask_4 8 rfl rfl)
theorem dX3_ask_100 : decode cX3_ask 100 = .ok (.iload_n 2, 1) := dk_28 (dk_at dksX3_ask_4 9 rfl rfl)
theorem dX3_ask_101 : decode cX3_ask 101 = .ok (.aload_n 1, 1) := dk_43 (dk_at dksX3_ask_4 10 rfl rfl)
theorem dX3_ask_102 : decode cX3_ask 102 = .ok (.aload_n 0, 1) := dk_42 (dk_at dksX3_ask_4 11 rfl rfl)
theorem dX3_ask_103 : decode cX3_ask 103 = .ok (.invokevirtual 93, 3) := dk_182 0 93 (dk_at dksX3_ask_4 12 rfl rfl)
theorem dX3_ask_106 : decode cX3_ask 106 = .ok (.invokespecial 157, 3) := dk_183 0 157 (dk_at dksX3_ask_4 15 rfl rfl)
theorem dX3_ask_109 : decode cX3_ask 109 = .ok (.areturn, 1) := dk_176 (dk_at dksX3_ask_4 18 rfl rfl)
abbrev cX3_want : ByteArray := prog_17_method_7_code
def yX3_want : MethodName := ⟨RX3, "want", "(I)V"⟩
def dkwX3_want_0 : List UInt8 := [42, 180, 0, 25, 27, 159, 0, 9, 42, 4, 182, 0, 70, 191, 42, 182, 0, 74, 177]
abbrev dktX3_want_0 : List UInt8 := dkwX3_want_0 ++ []
theorem dksX3_want_0 : cX3_want.data.toList.drop 0 = dktX3_want_0 := by decide +kernel
theorem dX3_want_0 : decode cX3_want 0 = .ok (.aload_n 0, 1) := dk_42 (dk_at dksX3_want_0 0 rfl rfl)
theorem dX3_want_1 : decode cX3_want 1 = .ok (.getfield 25, 3) := dk_180 0 25 (dk_at dksX3_want_0 1 rfl rfl)
theorem dX3_want_4 : decode cX3_want 4 = .ok (.iload_n 1, 1) := dk_27 (dk_at dksX3_want_0 4 rfl rfl)
theorem dX3_want_5 : decode cX3_want 5 = .ok (.if_icmp .eq 9, 3) := dk_159 0 9 (dk_at dksX3_want_0 5 rfl rfl)
theorem dX3_want_8 : decode cX3_want 8 = .ok (.aload_n 0, 1) := dk_42 (dk_at dksX3_want_0 8 rfl rfl)
theorem dX3_want_9 : decode cX3_want 9 = .ok (.iconst 1, 1) := dk_4 (dk_at dksX3_want_0 9 rfl rfl)
theorem dX3_want_10 : decode cX3_want 10 = .ok (.invokevirtual 70, 3) := dk_182 0 70 (dk_at dksX3_want_0 10 rfl rfl)
theorem dX3_want_13 : decode cX3_want 13 = .ok (.athrow, 1) := dk_191 (dk_at dksX3_want_0 13 rfl rfl)
theorem dX3_want_14 : decode cX3_want 14 = .ok (.aload_n 0, 1) := dk_42 (dk_at dksX3_want_0 14 rfl rfl)
theorem dX3_want_15 : decode cX3_want 15 = .ok (.invokevirtual 74, 3) := dk_182 0 74 (dk_at dksX3_want_0 15 rfl rfl)
theorem dX3_want_18 : decode cX3_want 18 = .ok (.return_, 1) := dk_177 (dk_at dksX3_want_0 18 rfl rfl)
abbrev cX3_round : ByteArray := prog_17_method_20_code
def yX3_round : MethodName := ⟨RX3, "round", "()LRailingsCount$Sum;"⟩
def dkwX3_round_1 : List UInt8 := [180, 0, 77, 4, 100, 181, 0, 77, 187, 0, 181, 89, 43, 44, 183, 0, 183, 176]
abbrev dktX3_round_1 : List UInt8 := dkwX3_round_1 ++ []
def dkwX3_round_0 : List UInt8 := [42, 182, 0, 147, 42, 182, 0, 174, 76, 42, 17, 0, 214, 182, 0, 111, 42, 182, 0, 174, 77, 42, 89]
abbrev dktX3_round_0 : List UInt8 := dkwX3_round_0 ++ dktX3_round_1
theorem dksX3_round_0 : cX3_round.data.toList.drop 0 = dktX3_round_0 := by decide +kernel
theorem dksX3_round_1 : cX3_round.data.toList.drop 23 = dktX3_round_1 := dk_seg dksX3_round_0 23 rfl rfl
theorem dX3_round_0 : decode cX3_round 0 = .ok (.aload_n 0, 1) := dk_42 (dk_at dksX3_round_0 0 rfl rfl)
theorem dX3_round_1 : decode cX3_round 1 = .ok (.invokevirtual 147, 3) := dk_182 0 147 (dk_at dksX3_round_0 1 rfl rfl)
theorem dX3_round_4 : decode cX3_round 4 = .ok (.aload_n 0, 1) := dk_42 (dk_at dksX3_round_0 4 rfl rfl)
theorem dX3_round_5 : decode cX3_round 5 = .ok (.invokevirtual 174, 3) := dk_182 0 174 (dk_at dksX3_round_0 5 rfl rfl)
theorem dX3_round_8 : decode cX3_round 8 = .ok (.astore_n 1, 1) := dk_76 (dk_at dksX3_round_0 8 rfl rfl)
theorem dX3_round_9 : decode cX3_round 9 = .ok (.aload_n 0, 1) := dk_42 (dk_at dksX3_round_0 9 rfl rfl)
theorem dX3_round_10 : decode cX3_round 10 = .ok (.sipush 214, 3) := dk_17 0 214 (dk_at dksX3_round_0 10 rfl rfl)
theorem dX3_round_13 : decode cX3_round 13 = .ok (.invokevirtual 111, 3) := dk_182 0 111 (dk_at dksX3_round_0 13 rfl rfl)
theorem dX3_round_16 : decode cX3_round 16 = .ok (.aload_n 0, 1) := dk_42 (dk_at dksX3_round_0 16 rfl rfl)
theorem dX3_round_17 : decode cX3_round 17 = .ok (.invokevirtual 174, 3) := dk_182 0 174 (dk_at dksX3_round_0 17 rfl rfl)
theorem dX3_round_20 : decode cX3_round 20 = .ok (.astore_n 2, 1) := dk_77 (dk_at dksX3_round_0 20 rfl rfl)
theorem dX3_round_21 : decode cX3_round 21 = .ok (.aload_n 0, 1) := dk_42 (dk_at dksX3_round_0 21 rfl rfl)
theorem dX3_round_22 : decode cX3_round 22 = .ok (.dup, 1) := dk_89 (dk_at dksX3_round_0 22 rfl rfl)
theorem dX3_round_23 : decode cX3_round 23 = .ok (.getfield 77, 3) := dk_180 0 77 (dk_at dksX3_round_1 0 rfl rfl)
theorem dX3_round_26 : decode cX3_round 26 = .ok (.iconst 1, 1) := dk_4 (dk_at dksX3_round_1 3 rfl rfl)
theorem dX3_round_27 : decode cX3_round 27 = .ok (.isub, 1) := dk_100 (dk_at dksX3_round_1 4 rfl rfl)
theorem dX3_round_28 : decode cX3_round 28 = .ok (.putfield 77, 3) := dk_181 0 77 (dk_at dksX3_round_1 5 rfl rfl)
theorem dX3_round_31 : decode cX3_round 31 = .ok (.new 181, 3) := dk_187 0 181 (dk_at dksX3_round_1 8 rfl rfl)
theorem dX3_round_34 : decode cX3_round 34 = .ok (.dup, 1) := dk_89 (dk_at dksX3_round_1 11 rfl rfl)
theorem dX3_round_35 : decode cX3_round 35 = .ok (.aload_n 1, 1) := dk_43 (dk_at dksX3_round_1 12 rfl rfl)
theorem dX3_round_36 : decode cX3_round 36 = .ok (.aload_n 2, 1) := dk_44 (dk_at dksX3_round_1 13 rfl rfl)
theorem dX3_round_37 : decode cX3_round 37 = .ok (.invokespecial 183, 3) := dk_183 0 183 (dk_at dksX3_round_1 14 rfl rfl)
theorem dX3_round_40 : decode cX3_round 40 = .ok (.areturn, 1) := dk_176 (dk_at dksX3_round_1 17 rfl rfl)
abbrev cX3_nameNow : ByteArray := prog_17_method_18_code
def yX3_nameNow : MethodName := ⟨RX3, "nameNow", "()I"⟩
def dkwX3_nameNow_1 : List UInt8 := [132, 1, 1, 167, 255, 231, 2, 172]
abbrev dktX3_nameNow_1 : List UInt8 := dkwX3_nameNow_1 ++ []
def dkwX3_nameNow_0 : List UInt8 := [3, 60, 27, 178, 0, 177, 190, 162, 0, 23, 178, 0, 177, 27, 46, 42, 180, 0, 25, 160, 0, 5, 27, 172]
abbrev dktX3_nameNow_0 : List UInt8 := dkwX3_nameNow_0 ++ dktX3_nameNow_1
theorem dksX3_nameNow_0 : cX3_nameNow.data.toList.drop 0 = dktX3_nameNow_0 := by decide +kernel
theorem dksX3_nameNow_1 : cX3_nameNow.data.toList.drop 24 = dktX3_nameNow_1 := dk_seg dksX3_nameNow_0 24 rfl rfl
theorem dX3_nameNow_0 : decode cX3_nameNow 0 = .ok (.iconst 0, 1) := dk_3 (dk_at dksX3_nameNow_0 0 rfl rfl)
theorem dX3_nameNow_1 : decode cX3_nameNow 1 = .ok (.istore_n 1, 1) := dk_60 (dk_at dksX3_nameNow_0 1 rfl rfl)
theorem dX3_nameNow_2 : decode cX3_nameNow 2 = .ok (.iload_n 1, 1) := dk_27 (dk_at dksX3_nameNow_0 2 rfl rfl)
theorem dX3_nameNow_3 : decode cX3_nameNow 3 = .ok (.getstatic 177, 3) := dk_178 0 177 (dk_at dksX3_nameNow_0 3 rfl rfl)
theorem dX3_nameNow_6 : decode cX3_nameNow 6 = .ok (.arraylength, 1) := dk_190 (dk_at dksX3_nameNow_0 6 rfl rfl)
theorem dX3_nameNow_7 : decode cX3_nameNow 7 = .ok (.if_icmp .ge 23, 3) := dk_162 0 23 (dk_at dksX3_nameNow_0 7 rfl rfl)
theorem dX3_nameNow_10 : decode cX3_nameNow 10 = .ok (.getstatic 177, 3) := dk_178 0 177 (dk_at dksX3_nameNow_0 10 rfl rfl)
theorem dX3_nameNow_13 : decode cX3_nameNow 13 = .ok (.iload_n 1, 1) := dk_27 (dk_at dksX3_nameNow_0 13 rfl rfl)
theorem dX3_nameNow_14 : decode cX3_nameNow 14 = .ok (.iaload, 1) := dk_46 (dk_at dksX3_nameNow_0 14 rfl rfl)
theorem dX3_nameNow_15 : decode cX3_nameNow 15 = .ok (.aload_n 0, 1) := dk_42 (dk_at dksX3_nameNow_0 15 rfl rfl)
theorem dX3_nameNow_16 : decode cX3_nameNow 16 = .ok (.getfield 25, 3) := dk_180 0 25 (dk_at dksX3_nameNow_0 16 rfl rfl)
theorem dX3_nameNow_19 : decode cX3_nameNow 19 = .ok (.if_icmp .ne 5, 3) := dk_160 0 5 (dk_at dksX3_nameNow_0 19 rfl rfl)
theorem dX3_nameNow_22 : decode cX3_nameNow 22 = .ok (.iload_n 1, 1) := dk_27 (dk_at dksX3_nameNow_0 22 rfl rfl)
theorem dX3_nameNow_23 : decode cX3_nameNow 23 = .ok (.ireturn, 1) := dk_172 (dk_at dksX3_nameNow_0 23 rfl rfl)
theorem dX3_nameNow_24 : decode cX3_nameNow 24 = .ok (.iinc 1 1, 3) := dk_132 1 1 (dk_at dksX3_nameNow_1 0 rfl rfl)
theorem dX3_nameNow_27 : decode cX3_nameNow 27 = .ok (.goto (-25), 3) := dk_167 255 231 (dk_at dksX3_nameNow_1 3 rfl rfl)
theorem dX3_nameNow_30 : decode cX3_nameNow 30 = .ok (.iconst (-1), 1) := dk_2 (dk_at dksX3_nameNow_1 6 rfl rfl)
theorem dX3_nameNow_31 : decode cX3_nameNow 31 = .ok (.ireturn, 1) := dk_172 (dk_at dksX3_nameNow_1 7 rfl rfl)
abbrev cX3_mayName : ByteArray := prog_17_method_19_code
def yX3_mayName : MethodName := ⟨RX3, "mayName", "(I)Z"⟩
def dkwX3_mayName_0 : List UInt8 := [27, 7, 161, 0, 13, 42, 180, 0, 83, 17, 0, 200, 160, 0, 7, 4, 167, 0, 4, 3, 172]
abbrev dktX3_mayName_0 : List UInt8 := dkwX3_mayName_0 ++ []
theorem dksX3_mayName_0 : cX3_mayName.data.toList.drop 0 = dktX3_mayName_0 := by decide +kernel
theorem dX3_mayName_0 : decode cX3_mayName 0 = .ok (.iload_n 1, 1) := dk_27 (dk_at dksX3_mayName_0 0 rfl rfl)
theorem dX3_mayName_1 : decode cX3_mayName 1 = .ok (.iconst 4, 1) := dk_7 (dk_at dksX3_mayName_0 1 rfl rfl)
theorem dX3_mayName_2 : decode cX3_mayName 2 = .ok (.if_icmp .lt 13, 3) := dk_161 0 13 (dk_at dksX3_mayName_0 2 rfl rfl)
theorem dX3_mayName_5 : decode cX3_mayName 5 = .ok (.aload_n 0, 1) := dk_42 (dk_at dksX3_mayName_0 5 rfl rfl)
theorem dX3_mayName_6 : decode cX3_mayName 6 = .ok (.getfield 83, 3) := dk_180 0 83 (dk_at dksX3_mayName_0 6 rfl rfl)
theorem dX3_mayName_9 : decode cX3_mayName 9 = .ok (.sipush 200, 3) := dk_17 0 200 (dk_at dksX3_mayName_0 9 rfl rfl)
theorem dX3_mayName_12 : decode cX3_mayName 12 = .ok (.if_icmp .ne 7, 3) := dk_160 0 7 (dk_at dksX3_mayName_0 12 rfl rfl)
theorem dX3_mayName_15 : decode cX3_mayName 15 = .ok (.iconst 1, 1) := dk_4 (dk_at dksX3_mayName_0 15 rfl rfl)
theorem dX3_mayName_16 : decode cX3_mayName 16 = .ok (.goto 4, 3) := dk_167 0 4 (dk_at dksX3_mayName_0 16 rfl rfl)
theorem dX3_mayName_19 : decode cX3_mayName 19 = .ok (.iconst 0, 1) := dk_3 (dk_at dksX3_mayName_0 19 rfl rfl)
theorem dX3_mayName_20 : decode cX3_mayName 20 = .ok (.ireturn, 1) := dk_172 (dk_at dksX3_mayName_0 20 rfl rfl)
abbrev cX3_doing : ByteArray := prog_17_method_12_code
def yX3_doing : MethodName := ⟨RX3, "doing", "(I)LRailingsCount$Doing;"⟩
def dkwX3_doing_6 : List UInt8 := [2, 27, 183, 0, 119, 176]
abbrev dktX3_doing_6 : List UInt8 := dkwX3_doing_6 ++ []
def dkwX3_doing_5 : List UInt8 := [182, 0, 115, 2, 27, 183, 0, 119, 176, 187, 0, 117, 89, 42, 180, 0, 83, 42, 3, 16, 29, 182, 0, 115]
abbrev dktX3_doing_5 : List UInt8 := dkwX3_doing_5 ++ dktX3_doing_6
def dkwX3_doing_4 : List UInt8 := [17, 0, 212, 16, 29, 27, 182, 0, 122, 176, 187, 0, 117, 89, 42, 180, 0, 83, 42, 4, 16, 60]
abbrev dktX3_doing_4 : List UInt8 := dkwX3_doing_4 ++ dktX3_doing_5
def dkwX3_doing_3 : List UInt8 := [182, 0, 122, 176, 42, 4, 16, 9, 17, 0, 211, 16, 9, 27, 182, 0, 122, 176, 42, 3, 16, 6]
abbrev dktX3_doing_3 : List UInt8 := dkwX3_doing_3 ++ dktX3_doing_4
def dkwX3_doing_2 : List UInt8 := [42, 3, 16, 29, 17, 0, 209, 6, 27, 182, 0, 122, 176, 42, 3, 16, 9, 17, 0, 210, 16, 29, 27]
abbrev dktX3_doing_2 : List UInt8 := dkwX3_doing_2 ++ dktX3_doing_3
def dkwX3_doing_1 : List UInt8 := [170, 0, 0, 0, 0, 0, 0, 120, 0, 0, 0, 202, 0, 0, 0, 208, 0, 0, 0, 44, 0, 0, 0, 57, 0, 0, 0, 71, 0, 0, 0, 85, 0, 0, 0, 120, 0, 0, 0, 120, 0, 0, 0, 99]
abbrev dktX3_doing_1 : List UInt8 := dkwX3_doing_1 ++ dktX3_doing_2
def dkwX3_doing_0 : List UInt8 := [42, 180, 0, 83]
abbrev dktX3_doing_0 : List UInt8 := dkwX3_doing_0 ++ dktX3_doing_1
theorem dksX3_doing_0 : cX3_doing.data.toList.drop 0 = dktX3_doing_0 := by decide +kernel
theorem dksX3_doing_1 : cX3_doing.data.toList.drop 4 = dktX3_doing_1 := dk_seg dksX3_doing_0 4 rfl rfl
theorem dksX3_doing_2 : cX3_doing.data.toList.drop 48 = dktX3_doing_2 := dk_seg dksX3_doing_1 44 rfl rfl
theorem dksX3_doing_3 : cX3_doing.data.toList.drop 71 = dktX3_doing_3 := dk_seg dksX3_doing_2 23 rfl rfl
theorem dksX3_doing_4 : cX3_doing.data.toList.drop 93 = dktX3_doing_4 := dk_seg dksX3_doing_3 22 rfl rfl
theorem dksX3_doing_5 : cX3_doing.data.toList.drop 115 = dktX3_doing_5 := dk_seg dksX3_doing_4 22 rfl rfl
theorem dksX3_doing_6 : cX3_doing.data.toList.drop 139 = dktX3_doing_6 := dk_seg dksX3_doing_5 24 rfl rfl
theorem dX3_doing_0 : decode cX3_doing 0 = .ok (.aload_n 0, 1) := dk_42 (dk_at dksX3_doing_0 0 rfl rfl)
theorem dX3_doing_1 : decode cX3_doing 1 = .ok (.getfield 83, 3) := dk_180 0 83 (dk_at dksX3_doing_0 1 rfl rfl)
theorem dX3_doing_4 : decode cX3_doing 4 = .ok (.tableswitch 120 202 208 #[44, 57, 71, 85, 120, 120, 99], 44) := by decide +kernel
theorem dX3_doing_48 : decode cX3_doing 48 = .ok (.aload_n 0, 1) := dk_42 (dk_at dksX3_doing_2 0 rfl rfl)
theorem dX3_doing_49 : decode cX3_doing 49 = .ok (.iconst 0, 1) := dk_3 (dk_at dksX3_doing_2 1 rfl rfl)
theorem dX3_doing_50 : decode cX3_doing 50 = .ok (.bipush 29, 2) := dk_16 29 (dk_at dksX3_doing_2 2 rfl rfl)
theorem dX3_doing_52 : decode cX3_doing 52 = .ok (.sipush 209, 3) := dk_17 0 209 (dk_at dksX3_doing_2 4 rfl rfl)
theorem dX3_doing_55 : decode cX3_doing 55 = .ok (.iconst 3, 1) := dk_6 (dk_at dksX3_doing_2 7 rfl rfl)
theorem dX3_doing_56 : decode cX3_doing 56 = .ok (.iload_n 1, 1) := dk_27 (dk_at dksX3_doing_2 8 rfl rfl)
theorem dX3_doing_57 : decode cX3_doing 57 = .ok (.invokevirtual 122, 3) := dk_182 0 122 (dk_at dksX3_doing_2 9 rfl rfl)
theorem dX3_doing_60 : decode cX3_doing 60 = .ok (.areturn, 1) := dk_176 (dk_at dksX3_doing_2 12 rfl rfl)
theorem dX3_doing_61 : decode cX3_doing 61 = .ok (.aload_n 0, 1) := dk_42 (dk_at dksX3_doing_2 13 rfl rfl)
theorem dX3_doing_62 : decode cX3_doing 62 = .ok (.iconst 0, 1) := dk_3 (dk_at dksX3_doing_2 14 rfl rfl)
theorem dX3_doing_63 : decode cX3_doing 63 = .ok (.bipush 9, 2) := dk_16 9 (dk_at dksX3_doing_2 15 rfl rfl)
theorem dX3_doing_65 : decode cX3_doing 65 = .ok (.sipush 210, 3) := dk_17 0 210 (dk_at dksX3_doing_2 17 rfl rfl)
theorem dX3_doing_68 : decode cX3_doing 68 = .ok (.bipush 29, 2) := dk_16 29 (dk_at dksX3_doing_2 20 rfl rfl)
theorem dX3_doing_70 : decode cX3_doing 70 = .ok (.iload_n 1, 1) := dk_27 (dk_at dksX3_doing_2 22 rfl rfl)
theorem dX3_doing_71 : decode cX3_doing 71 = .ok (.invokevirtual 122, 3) := dk_182 0 122 (dk_at dksX3_doing_3 0 rfl rfl)
theorem dX3_doing_74 : decode cX3_doing 74 = .ok (.areturn, 1) := dk_176 (dk_at dksX3_doing_3 3 rfl rfl)
theorem dX3_doing_75 : decode cX3_doing 75 = .ok (.aload_n 0, 1) := dk_42 (dk_at dksX3_doing_3 4 rfl rfl)
theorem dX3_doing_76 : decode cX3_doing 76 = .ok (.iconst 1, 1) := dk_4 (dk_at dksX3_doing_3 5 rfl rfl)
theorem dX3_doing_77 : decode cX3_doing 77 = .ok (.bipush 9, 2) := dk_16 9 (dk_at dksX3_doing_3 6 rfl rfl)
theorem dX3_doing_79 : decode cX3_doing 79 = .ok (.sipush 211, 3) := dk_17 0 211 (dk_at dksX3_doing_3 8 rfl rfl)
theorem dX3_doing_82 : decode cX3_doing 82 = .ok (.bipush 9, 2) := dk_16 9 (dk_at dksX3_doing_3 11 rfl rfl)
theorem dX3_doing_84 : decode cX3_doing 84 = .ok (.iload_n 1, 1) := dk_27 (dk_at dksX3_doing_3 13 rfl rfl)
theorem dX3_doing_85 : decode cX3_doing 85 = .ok (.invokevirtual 122, 3) := dk_182 0 122 (dk_at dksX3_doing_3 14 rfl rfl)
theorem dX3_doing_88 : decode cX3_doing 88 = .ok (.areturn, 1) := dk_176 (dk_at dksX3_doing_3 17 rfl rfl)
theorem dX3_doing_89 : decode cX3_doing 89 = .ok (.aload_n 0, 1) := dk_42 (dk_at dksX3_doing_3 18 rfl rfl)
theorem dX3_doing_90 : decode cX3_doing 90 = .ok (.iconst 0, 1) := dk_3 (dk_at dksX3_doing_3 19 rfl rfl)
theorem dX3_doing_91 : decode cX3_doing 91 = .ok (.bipush 6, 2) := dk_16 6 (dk_at dksX3_doing_3 20 rfl rfl)
theorem dX3_doing_93 : decode cX3_doing 93 = .ok (.sipush 212, 3) := dk_17 0 212 (dk_at dksX3_doing_4 0 rfl rfl)
theorem dX3_doing_96 : decode cX3_doing 96 = .ok (.bipush 29, 2) := dk_16 29 (dk_at dksX3_doing_4 3 rfl rfl)
theorem dX3_doing_98 : decode cX3_doing 98 = .ok (.iload_n 1, 1) := dk_27 (dk_at dksX3_doing_4 5 rfl rfl)
theorem dX3_doing_99 : decode cX3_doing 99 = .ok (.invokevirtual 122, 3) := dk_182 0 122 (dk_at dksX3_doing_4 6 rfl rfl)
theorem dX3_doing_102 : decode cX3_doing 102 = .ok (.areturn, 1) := dk_176 (dk_at dksX3_doing_4 9 rfl rfl)
theorem dX3_doing_103 : decode cX3_doing 103 = .ok (.new 117, 3) := dk_187 0 117 (dk_at dksX3_doing_4 10 rfl rfl)
theorem dX3_doing_106 : decode cX3_doing 106 = .ok (.dup, 1) := dk_89 (dk_at dksX3_doing_4 13 rfl rfl)
theorem dX3_doing_107 : decode cX3_doing 107 = .ok (.aload_n 0, 1) := dk_42 (dk_at dksX3_doing_4 14 rfl rfl)
theorem dX3_doing_108 : decode cX3_doing 108 = .ok (.getfield 83, 3) := dk_180 0 83 (dk_at dksX3_doing_4 15 rfl rfl)
theorem dX3_doing_111 : decode cX3_doing 111 = .ok (.aload_n 0, 1) := dk_42 (dk_at dksX3_doing_4 18 rfl rfl)
theorem dX3_doing_112 : decode cX3_doing 112 = .ok (.iconst 1, 1) := dk_4 (dk_at dksX3_doing_4 19 rfl rfl)
theorem dX3_doing_113 : decode cX3_doing 113 = .ok (.bipush 60, 2) := dk_16 60 (dk_at dksX3_doing_4 20 rfl rfl)
theorem dX3_doing_115 : decode cX3_doing 115 = .ok (.invokevirtual 115, 3) := dk_182 0 115 (dk_at dksX3_doing_5 0 rfl rfl)
theorem dX3_doing_118 : decode cX3_doing 118 = .ok (.iconst (-1), 1) := dk_2 (dk_at dksX3_doing_5 3 rfl rfl)
theorem dX3_doing_119 : decode cX3_doing 119 = .ok (.iload_n 1, 1) := dk_27 (dk_at dksX3_doing_5 4 rfl rfl)
theorem dX3_doing_120 : decode cX3_doing 120 = .ok (.invokespecial 119, 3) := dk_183 0 119 (dk_at dksX3_doing_5 5 rfl rfl)
theorem dX3_doing_123 : decode cX3_doing 123 = .ok (.areturn, 1) := dk_176 (dk_at dksX3_doing_5 8 rfl rfl)
theorem dX3_doing_124 : decode cX3_doing 124 = .ok (.new 117, 3) := dk_187 0 117 (dk_at dksX3_doing_5 9 rfl rfl)
theorem dX3_doing_127 : decode cX3_doing 127 = .ok (.dup, 1) := dk_89 (dk_at dksX3_doing_5 12 rfl rfl)
theorem dX3_doing_128 : decode cX3_doing 128 = .ok (.aload_n 0, 1) := dk_42 (dk_at dksX3_doing_5 13 rfl rfl)
theorem dX3_doing_129 : decode cX3_doing 129 = .ok (.getfield 83, 3) := dk_180 0 83 (dk_at dksX3_doing_5 14 rfl rfl)
theorem dX3_doing_132 : decode cX3_doing 132 = .ok (.aload_n 0, 1) := dk_42 (dk_at dksX3_doing_5 17 rfl rfl)
theorem dX3_doing_133 : decode cX3_doing 133 = .ok (.iconst 0, 1) := dk_3 (dk_at dksX3_doing_5 18 rfl rfl)
theorem dX3_doing_134 : decode cX3_doing 134 = .ok (.bipush 29, 2) := dk_16 29 (dk_at dksX3_doing_5 19 rfl rfl)
theorem dX3_doing_136 : decode cX3_doing 136 = .ok (.invokevirtual 115, 3) := dk_182 0 115 (dk_at dksX3_doing_5 21 rfl rfl)
theorem dX3_doing_139 : decode cX3_doing 139 = .ok (.iconst (-1), 1) := dk_2 (dk_at dksX3_doing_6 0 rfl rfl)
theorem dX3_doing_140 : decode cX3_doing 140 = .ok (.iload_n 1, 1) := dk_27 (dk_at dksX3_doing_6 1 rfl rfl)
theorem dX3_doing_141 : decode cX3_doing 141 = .ok (.invokespecial 119, 3) := dk_183 0 119 (dk_at dksX3_doing_6 2 rfl rfl)
theorem dX3_doing_144 : decode cX3_doing 144 = .ok (.areturn, 1) := dk_176 (dk_at dksX3_doing_6 5 rfl rfl)
abbrev cX3_two : ByteArray := prog_17_method_11_code
def yX3_two : MethodName := ⟨RX3, "two", "(IIIII)LRailingsCount$Doing;"⟩
def dkwX3_two_1 : List UInt8 := [3, 21, 4, 182, 0, 115, 21, 5, 183, 0, 119, 176]
abbrev dktX3_two_1 : List UInt8 := dkwX3_two_1 ++ []
def dkwX3_two_0 : List UInt8 := [42, 27, 28, 182, 0, 115, 54, 6, 42, 29, 182, 0, 111, 187, 0, 117, 89, 42, 180, 0, 83, 21, 6, 42]
abbrev dktX3_two_0 : List UInt8 := dkwX3_two_0 ++ dktX3_two_1
theorem dksX3_two_0 : cX3_two.data.toList.drop 0 = dktX3_two_0 := by decide +kernel
theorem dksX3_two_1 : cX3_two.data.toList.drop 24 = dktX3_two_1 := dk_seg dksX3_two_0 24 rfl rfl
theorem dX3_two_0 : decode cX3_two 0 = .ok (.aload_n 0, 1) := dk_42 (dk_at dksX3_two_0 0 rfl rfl)
theorem dX3_two_1 : decode cX3_two 1 = .ok (.iload_n 1, 1) := dk_27 (dk_at dksX3_two_0 1 rfl rfl)
theorem dX3_two_2 : decode cX3_two 2 = .ok (.iload_n 2, 1) := dk_28 (dk_at dksX3_two_0 2 rfl rfl)
theorem dX3_two_3 : decode cX3_two 3 = .ok (.invokevirtual 115, 3) := dk_182 0 115 (dk_at dksX3_two_0 3 rfl rfl)
theorem dX3_two_6 : decode cX3_two 6 = .ok (.istore 6, 2) := dk_54 6 (dk_at dksX3_two_0 6 rfl rfl)
theorem dX3_two_8 : decode cX3_two 8 = .ok (.aload_n 0, 1) := dk_42 (dk_at dksX3_two_0 8 rfl rfl)
theorem dX3_two_9 : decode cX3_two 9 = .ok (.iload_n 3, 1) := dk_29 (dk_at dksX3_two_0 9 rfl rfl)
theorem dX3_two_10 : decode cX3_two 10 = .ok (.invokevirtual 111, 3) := dk_182 0 111 (dk_at dksX3_two_0 10 rfl rfl)
theorem dX3_two_13 : decode cX3_two 13 = .ok (.new 117, 3) := dk_187 0 117 (dk_at dksX3_two_0 13 rfl rfl)
theorem dX3_two_16 : decode cX3_two 16 = .ok (.dup, 1) := dk_89 (dk_at dksX3_two_0 16 rfl rfl)
theorem dX3_two_17 : decode cX3_two 17 = .ok (.aload_n 0, 1) := dk_42 (dk_at dksX3_two_0 17 rfl rfl)
theorem dX3_two_18 : decode cX3_two 18 = .ok (.getfield 83, 3) := dk_180 0 83 (dk_at dksX3_two_0 18 rfl rfl)
theorem dX3_two_21 : decode cX3_two 21 = .ok (.iload 6, 2) := dk_21 6 (dk_at dksX3_two_0 21 rfl rfl)
theorem dX3_two_23 : decode cX3_two 23 = .ok (.aload_n 0, 1) := dk_42 (dk_at dksX3_two_0 23 rfl rfl)
theorem dX3_two_24 : decode cX3_two 24 = .ok (.iconst 0, 1) := dk_3 (dk_at dksX3_two_1 0 rfl rfl)
theorem dX3_two_25 : decode cX3_two 25 = .ok (.iload 4, 2) := dk_21 4 (dk_at dksX3_two_1 1 rfl rfl)
theorem dX3_two_27 : decode cX3_two 27 = .ok (.invokevirtual 115, 3) := dk_182 0 115 (dk_at dksX3_two_1 3 rfl rfl)
theorem dX3_two_30 : decode cX3_two 30 = .ok (.iload 5, 2) := dk_21 5 (dk_at dksX3_two_1 6 rfl rfl)
theorem dX3_two_32 : decode cX3_two 32 = .ok (.invokespecial 119, 3) := dk_183 0 119 (dk_at dksX3_two_1 8 rfl rfl)
theorem dX3_two_35 : decode cX3_two 35 = .ok (.areturn, 1) := dk_176 (dk_at dksX3_two_1 11 rfl rfl)
theorem q126 : (Jvm.Cond.initialized "RailingsCount$Tokens") ∈ lw_all := lw_g (lw_at lw_m1 6 rfl) rfl
theorem q307 : (Jvm.Cond.instantiable "RailingsCount$Tokens" (8 : Nat)) ∈ lw_all := lw_g (lw_at lw_m1 187 rfl) rfl
theorem q309 : (Jvm.Cond.instanceMethod ({ cls := "RailingsCount$Tokens", name := "<init>", desc := "([BI)V" } : Jvm.MethodName)) ∈ lw_all := lw_g (lw_at lw_m1 189 rfl) rfl
theorem q310 : (Jvm.Cond.code ({ cls := "RailingsCount$Tokens", name := "<init>", desc := "([BI)V" } : Jvm.MethodName) prog_17_method_1_code (3 : Nat) (Option.none : Option Jvm.ClassFile.FieldType)) ∈ lw_all := lw_g (lw_at lw_m1 190 rfl) rfl
theorem q311 : (Jvm.Cond.methodLink "RailingsCount$Tokens" (3 : Nat) ({ cls := "java/lang/Object", name := "<init>", desc := "()V" } : Jvm.MethodName)) ∈ lw_all := lw_g (lw_at lw_m1 191 rfl) rfl
theorem q312 : (Jvm.Cond.fieldLink "RailingsCount$Tokens" (9 : Nat) "RailingsCount$Tokens" "text" "[B") ∈ lw_all := lw_g (lw_at lw_m1 192 rfl) rfl
theorem q313 : (Jvm.Cond.fieldLink "RailingsCount$Tokens" (15 : Nat) "RailingsCount$Tokens" "size" "I") ∈ lw_all := lw_g (lw_at lw_m1 193 rfl) rfl
theorem q314 : (Jvm.Cond.fieldLink "RailingsCount$Tokens" (19 : Nat) "RailingsCount$Tokens" "at" "I") ∈ lw_all := lw_g (lw_at lw_m1 194 rfl) rfl
theorem q315 : (Jvm.Cond.fieldLink "RailingsCount$Tokens" (22 : Nat) "RailingsCount$Tokens" "token" "I") ∈ lw_all := lw_g (lw_at lw_m1 195 rfl) rfl
theorem q316 : (Jvm.Cond.fieldLink "RailingsCount$Tokens" (25 : Nat) "RailingsCount$Tokens" "sort" "I") ∈ lw_all := lw_g (lw_at lw_m1 196 rfl) rfl
theorem q317 : (Jvm.Cond.fieldLink "RailingsCount$Tokens" (43 : Nat) "RailingsCount$Tokens" "number" "I") ∈ lw_all := lw_g (lw_at lw_m1 197 rfl) rfl
theorem q318 : (Jvm.Cond.fieldLink "RailingsCount$Tokens" (77 : Nat) "RailingsCount$Tokens" "open" "I") ∈ lw_all := lw_g (lw_at lw_m1 198 rfl) rfl
theorem q319 : (Jvm.Cond.fieldLink "RailingsCount$Tokens" (83 : Nat) "RailingsCount$Tokens" "kind" "I") ∈ lw_all := lw_g (lw_at lw_m1 199 rfl) rfl
theorem q320 : (Jvm.Cond.laysFinal "RailingsCount$Tokens" "RailingsCount$Tokens" "text" "[B") ∈ lw_all := lw_g (lw_at lw_m1 200 rfl) rfl
theorem q321 : (Jvm.Cond.soleField "RailingsCount$Tokens" "text") ∈ lw_all := lw_g (lw_at lw_m1 201 rfl) rfl
theorem q322 : (Jvm.Cond.laysFinal "RailingsCount$Tokens" "RailingsCount$Tokens" "size" "I") ∈ lw_all := lw_g (lw_at lw_m1 202 rfl) rfl
theorem q323 : (Jvm.Cond.soleField "RailingsCount$Tokens" "size") ∈ lw_all := lw_g (lw_at lw_m1 203 rfl) rfl
theorem q324 : (Jvm.Cond.lays "RailingsCount$Tokens" "RailingsCount$Tokens" "at" "I") ∈ lw_all := lw_g (lw_at lw_m1 204 rfl) rfl
theorem q325 : (Jvm.Cond.soleField "RailingsCount$Tokens" "at") ∈ lw_all := lw_g (lw_at lw_m1 205 rfl) rfl
theorem q326 : (Jvm.Cond.lays "RailingsCount$Tokens" "RailingsCount$Tokens" "token" "I") ∈ lw_all := lw_g (lw_at lw_m1 206 rfl) rfl
theorem q327 : (Jvm.Cond.soleField "RailingsCount$Tokens" "token") ∈ lw_all := lw_g (lw_at lw_m1 207 rfl) rfl
theorem q328 : (Jvm.Cond.lays "RailingsCount$Tokens" "RailingsCount$Tokens" "sort" "I") ∈ lw_all := lw_g (lw_at lw_m1 208 rfl) rfl
theorem q329 : (Jvm.Cond.soleField "RailingsCount$Tokens" "sort") ∈ lw_all := lw_g (lw_at lw_m1 209 rfl) rfl
theorem q330 : (Jvm.Cond.lays "RailingsCount$Tokens" "RailingsCount$Tokens" "number" "I") ∈ lw_all := lw_g (lw_at lw_m1 210 rfl) rfl
theorem q331 : (Jvm.Cond.soleField "RailingsCount$Tokens" "number") ∈ lw_all := lw_g (lw_at lw_m1 211 rfl) rfl
theorem q332 : (Jvm.Cond.lays "RailingsCount$Tokens" "RailingsCount$Tokens" "open" "I") ∈ lw_all := lw_g (lw_at lw_m1 212 rfl) rfl
theorem q333 : (Jvm.Cond.soleField "RailingsCount$Tokens" "open") ∈ lw_all := lw_g (lw_at lw_m1 213 rfl) rfl
theorem q334 : (Jvm.Cond.lays "RailingsCount$Tokens" "RailingsCount$Tokens" "kind" "I") ∈ lw_all := lw_g (lw_at lw_m1 214 rfl) rfl
theorem q335 : (Jvm.Cond.soleField "RailingsCount$Tokens" "kind") ∈ lw_all := lw_g (lw_at lw_m1 215 rfl) rfl
theorem q336 : (Jvm.Cond.superclass "RailingsCount$Tokens" "java/lang/Object") ∈ lw_all := lw_g (lw_at lw_m1 216 rfl) rfl
theorem q338 : (Jvm.Cond.instanceMethod ({ cls := "RailingsCount$Tokens", name := "read", desc := "()LRailingsCount$Text;" } : Jvm.MethodName)) ∈ lw_all := lw_g (lw_at lw_m1 218 rfl) rfl
theorem q339 : (Jvm.Cond.selects "RailingsCount$Tokens" ({ cls := "RailingsCount$Tokens", name := "read", desc := "()LRailingsCount$Text;" } : Jvm.MethodName) ({ cls := "RailingsCount$Tokens", name := "read", desc := "()LRailingsCount$Text;" } : Jvm.MethodName)) ∈ lw_all := lw_g (lw_at lw_m1 219 rfl) rfl
theorem q340 : (Jvm.Cond.code ({ cls := "RailingsCount$Tokens", name := "read", desc := "()LRailingsCount$Text;" } : Jvm.MethodName) prog_17_method_10_code (2 : Nat) (Option.some (Jvm.ClassFile.FieldType.object "RailingsCount$Text"))) ∈ lw_all := lw_g (lw_at lw_m1 220 rfl) rfl
theorem q341 : (Jvm.Cond.classLink "RailingsCount$Tokens" (80 : Nat) "RailingsCount$Text") ∈ lw_all := lw_g (lw_at lw_m1 221 rfl) rfl
theorem q343 : (Jvm.Cond.methodLinkNest "RailingsCount$Tokens" (82 : Nat) ({ cls := "RailingsCount$Text", name := "<init>", desc := "()V" } : Jvm.MethodName) "RailingsCount") ∈ lw_tbl := lw_at lw_m1 223 rfl
theorem q376 : (Jvm.Cond.fieldLinkNest "RailingsCount$Tokens" (86 : Nat) "RailingsCount$Text" "law" "[LRailingsCount$Sum;" "RailingsCount") ∈ lw_tbl := lw_at lw_m2 16 rfl
theorem q378 : (Jvm.Cond.fieldLinkNest "RailingsCount$Tokens" (90 : Nat) "RailingsCount$Text" "clauses" "I" "RailingsCount") ∈ lw_tbl := lw_at lw_m2 18 rfl
theorem q380 : (Jvm.Cond.fieldLinkNest "RailingsCount$Tokens" (97 : Nat) "RailingsCount$Text" "doings" "Ljava/util/ArrayList;" "RailingsCount") ∈ lw_tbl := lw_at lw_m2 20 rfl
theorem q389 : (Jvm.Cond.methodLink "RailingsCount$Tokens" (74 : Nat) ({ cls := "RailingsCount$Tokens", name := "next", desc := "()V" } : Jvm.MethodName)) ∈ lw_all := lw_g (lw_at lw_m2 29 rfl) rfl
theorem q390 : (Jvm.Cond.privateMethod ({ cls := "RailingsCount$Tokens", name := "next", desc := "()V" } : Jvm.MethodName)) ∈ lw_tbl := lw_at lw_m2 30 rfl
theorem q391 : (Jvm.Cond.instanceMethod ({ cls := "RailingsCount$Tokens", name := "next", desc := "()V" } : Jvm.MethodName)) ∈ lw_all := lw_g (lw_at lw_m2 31 rfl) rfl
theorem q392 : (Jvm.Cond.code ({ cls := "RailingsCount$Tokens", name := "next", desc := "()V" } : Jvm.MethodName) prog_17_method_4_code (3 : Nat) (Option.none : Option Jvm.ClassFile.FieldType)) ∈ lw_all := lw_g (lw_at lw_m2 32 rfl) rfl
theorem q393 : (Jvm.Cond.methodLink "RailingsCount$Tokens" (28 : Nat) ({ cls := "RailingsCount$Tokens", name := "isLetter", desc := "(I)Z" } : Jvm.MethodName)) ∈ lw_all := lw_g (lw_at lw_m2 33 rfl) rfl
theorem q394 : (Jvm.Cond.static ({ cls := "RailingsCount$Tokens", name := "isLetter", desc := "(I)Z" } : Jvm.MethodName)) ∈ lw_all := lw_g (lw_at lw_m2 34 rfl) rfl
theorem q395 : (Jvm.Cond.code ({ cls := "RailingsCount$Tokens", name := "isLetter", desc := "(I)Z" } : Jvm.MethodName) prog_17_method_2_code (1 : Nat) (Option.some Jvm.ClassFile.FieldType.boolean)) ∈ lw_all := lw_g (lw_at lw_m2 35 rfl) rfl
theorem q396 : (Jvm.Cond.fieldLink "RailingsCount$Tokens" (32 : Nat) "RailingsCount$Tokens" "WORDS" "[Ljava/lang/String;") ∈ lw_all := lw_g (lw_at lw_m2 36 rfl) rfl
theorem q397 : (Jvm.Cond.laysStatic "RailingsCount$Tokens" "WORDS" "[Ljava/lang/String;") ∈ lw_tbl := lw_at lw_m2 37 rfl
theorem q398 : (Jvm.Cond.methodLink "RailingsCount$Tokens" (36 : Nat) ({ cls := "RailingsCount$Tokens", name := "isWord", desc := "(Ljava/lang/String;)Z" } : Jvm.MethodName)) ∈ lw_all := lw_g (lw_at lw_m2 38 rfl) rfl
theorem q399 : (Jvm.Cond.privateMethod ({ cls := "RailingsCount$Tokens", name := "isWord", desc := "(Ljava/lang/String;)Z" } : Jvm.MethodName)) ∈ lw_tbl := lw_at lw_m2 39 rfl
theorem q400 : (Jvm.Cond.instanceMethod ({ cls := "RailingsCount$Tokens", name := "isWord", desc := "(Ljava/lang/String;)Z" } : Jvm.MethodName)) ∈ lw_all := lw_g (lw_at lw_m2 40 rfl) rfl
theorem q401 : (Jvm.Cond.code ({ cls := "RailingsCount$Tokens", name := "isWord", desc := "(Ljava/lang/String;)Z" } : Jvm.MethodName) prog_17_method_5_code (3 : Nat) (Option.some Jvm.ClassFile.FieldType.boolean)) ∈ lw_all := lw_g (lw_at lw_m2 41 rfl) rfl
theorem q402 : (Jvm.Cond.methodLink "RailingsCount$Tokens" (55 : Nat) ({ cls := "java/lang/String", name := "length", desc := "()I" } : Jvm.MethodName)) ∈ lw_all := lw_g (lw_at lw_m2 42 rfl) rfl
theorem q412 : (Jvm.Cond.methodLink "RailingsCount$Tokens" (61 : Nat) ({ cls := "java/lang/String", name := "charAt", desc := "(I)C" } : Jvm.MethodName)) ∈ lw_all := lw_g (lw_at lw_m2 52 rfl) rfl
theorem q450 : (Jvm.Cond.methodLink "RailingsCount$Tokens" (40 : Nat) ({ cls := "RailingsCount$Tokens", name := "isDigit", desc := "(I)Z" } : Jvm.MethodName)) ∈ lw_all := lw_g (lw_at lw_m2 90 rfl) rfl
theorem q451 : (Jvm.Cond.static ({ cls := "RailingsCount$Tokens", name := "isDigit", desc := "(I)Z" } : Jvm.MethodName)) ∈ lw_all := lw_g (lw_at lw_m2 91 rfl) rfl
theorem q452 : (Jvm.Cond.code ({ cls := "RailingsCount$Tokens", name := "isDigit", desc := "(I)Z" } : Jvm.MethodName) prog_17_method_3_code (1 : Nat) (Option.some Jvm.ClassFile.FieldType.boolean)) ∈ lw_all := lw_g (lw_at lw_m2 92 rfl) rfl
theorem q453 : (Jvm.Cond.constant "RailingsCount$Tokens" (46 : Nat) (99999 : Int32)) ∈ lw_all := lw_g (lw_at lw_m2 93 rfl) rfl
theorem q454 : (Jvm.Cond.methodLink "RailingsCount$Tokens" (47 : Nat) ({ cls := "java/lang/Math", name := "min", desc := "(II)I" } : Jvm.MethodName)) ∈ lw_all := lw_g (lw_at lw_m2 94 rfl) rfl
theorem q457 : (Jvm.Cond.stringRef "RailingsCount$Tokens" (53 : Nat) "<>=#+-*/();") ∈ lw_tbl := lw_at lw_m2 97 rfl
theorem q458 : (Jvm.Cond.methodLink "RailingsCount$Tokens" (70 : Nat) ({ cls := "RailingsCount$Tokens", name := "wrong", desc := "(I)LRailingsCount$Wrong;" } : Jvm.MethodName)) ∈ lw_all := lw_g (lw_at lw_m2 98 rfl) rfl
theorem q459 : (Jvm.Cond.privateMethod ({ cls := "RailingsCount$Tokens", name := "wrong", desc := "(I)LRailingsCount$Wrong;" } : Jvm.MethodName)) ∈ lw_tbl := lw_at lw_m2 99 rfl
theorem q460 : (Jvm.Cond.instanceMethod ({ cls := "RailingsCount$Tokens", name := "wrong", desc := "(I)LRailingsCount$Wrong;" } : Jvm.MethodName)) ∈ lw_all := lw_g (lw_at lw_m2 100 rfl) rfl
theorem q461 : (Jvm.Cond.code ({ cls := "RailingsCount$Tokens", name := "wrong", desc := "(I)LRailingsCount$Wrong;" } : Jvm.MethodName) prog_17_method_6_code (2 : Nat) (Option.some (Jvm.ClassFile.FieldType.object "RailingsCount$Wrong"))) ∈ lw_all := lw_g (lw_at lw_m2 101 rfl) rfl
theorem q462 : (Jvm.Cond.classLink "RailingsCount$Tokens" (65 : Nat) "RailingsCount$Wrong") ∈ lw_all := lw_g (lw_at lw_m2 102 rfl) rfl
theorem q499 : (Jvm.Cond.methodLink "RailingsCount$Tokens" (67 : Nat) ({ cls := "RailingsCount$Wrong", name := "<init>", desc := "(II)V" } : Jvm.MethodName)) ∈ lw_all := lw_g (lw_at lw_m2 139 rfl) rfl
theorem q526 : (Jvm.Cond.methodLink "RailingsCount$Tokens" (93 : Nat) ({ cls := "RailingsCount$Tokens", name := "sum", desc := "()LRailingsCount$Sum;" } : Jvm.MethodName)) ∈ lw_all := lw_g (lw_at lw_m2 166 rfl) rfl
theorem q527 : (Jvm.Cond.privateMethod ({ cls := "RailingsCount$Tokens", name := "sum", desc := "()LRailingsCount$Sum;" } : Jvm.MethodName)) ∈ lw_tbl := lw_at lw_m2 167 rfl
theorem q528 : (Jvm.Cond.instanceMethod ({ cls := "RailingsCount$Tokens", name := "sum", desc := "()LRailingsCount$Sum;" } : Jvm.MethodName)) ∈ lw_all := lw_g (lw_at lw_m2 168 rfl) rfl
theorem q529 : (Jvm.Cond.code ({ cls := "RailingsCount$Tokens", name := "sum", desc := "()LRailingsCount$Sum;" } : Jvm.MethodName) prog_17_method_16_code (3 : Nat) (Option.some (Jvm.ClassFile.FieldType.object "RailingsCount$Sum"))) ∈ lw_all := lw_g (lw_at lw_m2 169 rfl) rfl
theorem q530 : (Jvm.Cond.classLink "RailingsCount$Tokens" (160 : Nat) "RailingsCount$Chain") ∈ lw_all := lw_g (lw_at lw_m2 170 rfl) rfl
theorem q532 : (Jvm.Cond.methodLink "RailingsCount$Tokens" (162 : Nat) ({ cls := "RailingsCount$Tokens", name := "product", desc := "()LRailingsCount$Sum;" } : Jvm.MethodName)) ∈ lw_all := lw_g (lw_at lw_m2 172 rfl) rfl
theorem q533 : (Jvm.Cond.privateMethod ({ cls := "RailingsCount$Tokens", name := "product", desc := "()LRailingsCount$Sum;" } : Jvm.MethodName)) ∈ lw_tbl := lw_at lw_m2 173 rfl
theorem q534 : (Jvm.Cond.instanceMethod ({ cls := "RailingsCount$Tokens", name := "product", desc := "()LRailingsCount$Sum;" } : Jvm.MethodName)) ∈ lw_all := lw_g (lw_at lw_m2 174 rfl) rfl
theorem q535 : (Jvm.Cond.code ({ cls := "RailingsCount$Tokens", name := "product", desc := "()LRailingsCount$Sum;" } : Jvm.MethodName) prog_17_method_17_code (3 : Nat) (Option.some (Jvm.ClassFile.FieldType.object "RailingsCount$Sum"))) ∈ lw_all := lw_g (lw_at lw_m2 175 rfl) rfl
theorem q536 : (Jvm.Cond.methodLink "RailingsCount$Tokens" (174 : Nat) ({ cls := "RailingsCount$Tokens", name := "one", desc := "()LRailingsCount$Sum;" } : Jvm.MethodName)) ∈ lw_all := lw_g (lw_at lw_m2 176 rfl) rfl
theorem q537 : (Jvm.Cond.privateMethod ({ cls := "RailingsCount$Tokens", name := "one", desc := "()LRailingsCount$Sum;" } : Jvm.MethodName)) ∈ lw_tbl := lw_at lw_m2 177 rfl
theorem q538 : (Jvm.Cond.instanceMethod ({ cls := "RailingsCount$Tokens", name := "one", desc := "()LRailingsCount$Sum;" } : Jvm.MethodName)) ∈ lw_all := lw_g (lw_at lw_m2 178 rfl) rfl
theorem q539 : (Jvm.Cond.code ({ cls := "RailingsCount$Tokens", name := "one", desc := "()LRailingsCount$Sum;" } : Jvm.MethodName) prog_17_method_22_code (5 : Nat) (Option.some (Jvm.ClassFile.FieldType.object "RailingsCount$Sum"))) ∈ lw_all := lw_g (lw_at lw_m2 179 rfl) rfl
theorem q540 : (Jvm.Cond.classLink "RailingsCount$Tokens" (194 : Nat) "RailingsCount$Plain") ∈ lw_all := lw_g (lw_at lw_m2 180 rfl) rfl
theorem q542 : (Jvm.Cond.methodLink "RailingsCount$Tokens" (115 : Nat) ({ cls := "RailingsCount$Tokens", name := "number", desc := "(II)I" } : Jvm.MethodName)) ∈ lw_all := lw_g (lw_at lw_m2 182 rfl) rfl
theorem q543 : (Jvm.Cond.privateMethod ({ cls := "RailingsCount$Tokens", name := "number", desc := "(II)I" } : Jvm.MethodName)) ∈ lw_tbl := lw_at lw_m2 183 rfl
theorem q544 : (Jvm.Cond.instanceMethod ({ cls := "RailingsCount$Tokens", name := "number", desc := "(II)I" } : Jvm.MethodName)) ∈ lw_all := lw_g (lw_at lw_m2 184 rfl) rfl
theorem q545 : (Jvm.Cond.code ({ cls := "RailingsCount$Tokens", name := "number", desc := "(II)I" } : Jvm.MethodName) prog_17_method_8_code (4 : Nat) (Option.some Jvm.ClassFile.FieldType.int)) ∈ lw_all := lw_g (lw_at lw_m2 185 rfl) rfl
theorem q546 : (Jvm.Cond.methodLinkNest "RailingsCount$Tokens" (196 : Nat) ({ cls := "RailingsCount$Plain", name := "<init>", desc := "(I)V" } : Jvm.MethodName) "RailingsCount") ∈ lw_tbl := lw_at lw_m2 186 rfl
theorem q557 : (Jvm.Cond.methodLink "RailingsCount$Tokens" (198 : Nat) ({ cls := "RailingsCount$Tokens", name := "choice", desc := "()LRailingsCount$Sum;" } : Jvm.MethodName)) ∈ lw_all := lw_g (lw_at lw_m2 197 rfl) rfl
theorem q558 : (Jvm.Cond.privateMethod ({ cls := "RailingsCount$Tokens", name := "choice", desc := "()LRailingsCount$Sum;" } : Jvm.MethodName)) ∈ lw_tbl := lw_at lw_m2 198 rfl
theorem q559 : (Jvm.Cond.instanceMethod ({ cls := "RailingsCount$Tokens", name := "choice", desc := "()LRailingsCount$Sum;" } : Jvm.MethodName)) ∈ lw_all := lw_g (lw_at lw_m2 199 rfl) rfl
theorem q560 : (Jvm.Cond.code ({ cls := "RailingsCount$Tokens", name := "choice", desc := "()LRailingsCount$Sum;" } : Jvm.MethodName) prog_17_method_21_code (4 : Nat) (Option.some (Jvm.ClassFile.FieldType.object "RailingsCount$Sum"))) ∈ lw_all := lw_g (lw_at lw_m2 200 rfl) rfl
theorem q561 : (Jvm.Cond.methodLink "RailingsCount$Tokens" (147 : Nat) ({ cls := "RailingsCount$Tokens", name := "opens", desc := "()V" } : Jvm.MethodName)) ∈ lw_all := lw_g (lw_at lw_m2 201 rfl) rfl
theorem q562 : (Jvm.Cond.privateMethod ({ cls := "RailingsCount$Tokens", name := "opens", desc := "()V" } : Jvm.MethodName)) ∈ lw_tbl := lw_at lw_m2 202 rfl
theorem q563 : (Jvm.Cond.instanceMethod ({ cls := "RailingsCount$Tokens", name := "opens", desc := "()V" } : Jvm.MethodName)) ∈ lw_all := lw_g (lw_at lw_m2 203 rfl) rfl
theorem q564 : (Jvm.Cond.code ({ cls := "RailingsCount$Tokens", name := "opens", desc := "()V" } : Jvm.MethodName) prog_17_method_9_code (1 : Nat) (Option.none : Option Jvm.ClassFile.FieldType)) ∈ lw_all := lw_g (lw_at lw_m2 204 rfl) rfl
theorem q565 : (Jvm.Cond.methodLink "RailingsCount$Tokens" (186 : Nat) ({ cls := "RailingsCount$Tokens", name := "either", desc := "()LRailingsCount$Asked;" } : Jvm.MethodName)) ∈ lw_all := lw_g (lw_at lw_m2 205 rfl) rfl
theorem q566 : (Jvm.Cond.privateMethod ({ cls := "RailingsCount$Tokens", name := "either", desc := "()LRailingsCount$Asked;" } : Jvm.MethodName)) ∈ lw_tbl := lw_at lw_m2 206 rfl
theorem q567 : (Jvm.Cond.instanceMethod ({ cls := "RailingsCount$Tokens", name := "either", desc := "()LRailingsCount$Asked;" } : Jvm.MethodName)) ∈ lw_all := lw_g (lw_at lw_m2 207 rfl) rfl
theorem q568 : (Jvm.Cond.code ({ cls := "RailingsCount$Tokens", name := "either", desc := "()LRailingsCount$Asked;" } : Jvm.MethodName) prog_17_method_13_code (2 : Nat) (Option.some (Jvm.ClassFile.FieldType.object "RailingsCount$Asked"))) ∈ lw_all := lw_g (lw_at lw_m2 208 rfl) rfl
theorem q569 : (Jvm.Cond.classLink "RailingsCount$Tokens" (106 : Nat) "java/util/ArrayList") ∈ lw_all := lw_g (lw_at lw_m2 209 rfl) rfl
theorem q570 : (Jvm.Cond.methodLink "RailingsCount$Tokens" (126 : Nat) ({ cls := "java/util/ArrayList", name := "<init>", desc := "()V" } : Jvm.MethodName)) ∈ lw_all := lw_g (lw_at lw_m2 210 rfl) rfl
theorem q571 : (Jvm.Cond.methodLink "RailingsCount$Tokens" (127 : Nat) ({ cls := "RailingsCount$Tokens", name := "both", desc := "()LRailingsCount$Asked;" } : Jvm.MethodName)) ∈ lw_all := lw_g (lw_at lw_m2 211 rfl) rfl
theorem q572 : (Jvm.Cond.privateMethod ({ cls := "RailingsCount$Tokens", name := "both", desc := "()LRailingsCount$Asked;" } : Jvm.MethodName)) ∈ lw_tbl := lw_at lw_m2 212 rfl
theorem q573 : (Jvm.Cond.instanceMethod ({ cls := "RailingsCount$Tokens", name := "both", desc := "()LRailingsCount$Asked;" } : Jvm.MethodName)) ∈ lw_all := lw_g (lw_at lw_m2 213 rfl) rfl
theorem q574 : (Jvm.Cond.code ({ cls := "RailingsCount$Tokens", name := "both", desc := "()LRailingsCount$Asked;" } : Jvm.MethodName) prog_17_method_14_code (2 : Nat) (Option.some (Jvm.ClassFile.FieldType.object "RailingsCount$Asked"))) ∈ lw_all := lw_g (lw_at lw_m2 214 rfl) rfl
theorem q575 : (Jvm.Cond.methodLink "RailingsCount$Tokens" (144 : Nat) ({ cls := "RailingsCount$Tokens", name := "ask", desc := "()LRailingsCount$Asked;" } : Jvm.MethodName)) ∈ lw_all := lw_g (lw_at lw_m2 215 rfl) rfl
theorem q576 : (Jvm.Cond.privateMethod ({ cls := "RailingsCount$Tokens", name := "ask", desc := "()LRailingsCount$Asked;" } : Jvm.MethodName)) ∈ lw_tbl := lw_at lw_m2 216 rfl
theorem q577 : (Jvm.Cond.instanceMethod ({ cls := "RailingsCount$Tokens", name := "ask", desc := "()LRailingsCount$Asked;" } : Jvm.MethodName)) ∈ lw_all := lw_g (lw_at lw_m2 217 rfl) rfl
theorem q578 : (Jvm.Cond.code ({ cls := "RailingsCount$Tokens", name := "ask", desc := "()LRailingsCount$Asked;" } : Jvm.MethodName) prog_17_method_15_code (3 : Nat) (Option.some (Jvm.ClassFile.FieldType.object "RailingsCount$Asked"))) ∈ lw_all := lw_g (lw_at lw_m2 218 rfl) rfl
theorem q579 : (Jvm.Cond.classLink "RailingsCount$Tokens" (150 : Nat) "RailingsCount$Not") ∈ lw_all := lw_g (lw_at lw_m2 219 rfl) rfl
theorem q581 : (Jvm.Cond.methodLinkNest "RailingsCount$Tokens" (152 : Nat) ({ cls := "RailingsCount$Not", name := "<init>", desc := "(LRailingsCount$Asked;)V" } : Jvm.MethodName) "RailingsCount") ∈ lw_tbl := lw_at lw_m2 221 rfl
theorem q589 : (Jvm.Cond.classLink "RailingsCount$Tokens" (155 : Nat) "RailingsCount$Compared") ∈ lw_all := lw_g (lw_at lw_m2 229 rfl) rfl
theorem q591 : (Jvm.Cond.methodLinkNest "RailingsCount$Tokens" (157 : Nat) ({ cls := "RailingsCount$Compared", name := "<init>", desc := "(ILRailingsCount$Sum;LRailingsCount$Sum;)V" } : Jvm.MethodName) "RailingsCount") ∈ lw_tbl := lw_at lw_m2 231 rfl
theorem q605 : (Jvm.Cond.methodLink "RailingsCount$Tokens" (105 : Nat) ({ cls := "java/util/ArrayList", name := "add", desc := "(Ljava/lang/Object;)Z" } : Jvm.MethodName)) ∈ lw_all := lw_g (lw_at lw_m3 5 rfl) rfl
theorem q651 : (Jvm.Cond.selects "RailingsCount$Tokens" ({ cls := "java/lang/Object", name := "getClass", desc := "()Ljava/lang/Class;" } : Jvm.MethodName) ({ cls := "java/lang/Object", name := "getClass", desc := "()Ljava/lang/Class;" } : Jvm.MethodName)) ∈ lw_all := lw_g (lw_at lw_m3 51 rfl) rfl
theorem q667 : (Jvm.Cond.methodLink "RailingsCount$Tokens" (131 : Nat) ({ cls := "java/util/ArrayList", name := "size", desc := "()I" } : Jvm.MethodName)) ∈ lw_all := lw_g (lw_at lw_m3 67 rfl) rfl
theorem q671 : (Jvm.Cond.methodLink "RailingsCount$Tokens" (133 : Nat) ({ cls := "java/util/ArrayList", name := "get", desc := "(I)Ljava/lang/Object;" } : Jvm.MethodName)) ∈ lw_all := lw_g (lw_at lw_m3 71 rfl) rfl
theorem q683 : (Jvm.Cond.classLink "RailingsCount$Tokens" (137 : Nat) "RailingsCount$Asked") ∈ lw_all := lw_g (lw_at lw_m3 83 rfl) rfl
theorem q684 : (Jvm.Cond.classLink "RailingsCount$Tokens" (139 : Nat) "RailingsCount$All") ∈ lw_all := lw_g (lw_at lw_m3 84 rfl) rfl
theorem q686 : (Jvm.Cond.methodLinkNest "RailingsCount$Tokens" (141 : Nat) ({ cls := "RailingsCount$All", name := "<init>", desc := "(ZLjava/util/ArrayList;)V" } : Jvm.MethodName) "RailingsCount") ∈ lw_tbl := lw_at lw_m3 86 rfl
theorem q697 : (Jvm.Cond.methodLink "RailingsCount$Tokens" (111 : Nat) ({ cls := "RailingsCount$Tokens", name := "want", desc := "(I)V" } : Jvm.MethodName)) ∈ lw_all := lw_g (lw_at lw_m3 97 rfl) rfl
theorem q698 : (Jvm.Cond.privateMethod ({ cls := "RailingsCount$Tokens", name := "want", desc := "(I)V" } : Jvm.MethodName)) ∈ lw_tbl := lw_at lw_m3 98 rfl
theorem q699 : (Jvm.Cond.instanceMethod ({ cls := "RailingsCount$Tokens", name := "want", desc := "(I)V" } : Jvm.MethodName)) ∈ lw_all := lw_g (lw_at lw_m3 99 rfl) rfl
theorem q700 : (Jvm.Cond.code ({ cls := "RailingsCount$Tokens", name := "want", desc := "(I)V" } : Jvm.MethodName) prog_17_method_7_code (2 : Nat) (Option.none : Option Jvm.ClassFile.FieldType)) ∈ lw_all := lw_g (lw_at lw_m3 100 rfl) rfl
theorem q701 : (Jvm.Cond.classLink "RailingsCount$Tokens" (189 : Nat) "RailingsCount$If") ∈ lw_all := lw_g (lw_at lw_m3 101 rfl) rfl
theorem q703 : (Jvm.Cond.methodLinkNest "RailingsCount$Tokens" (191 : Nat) ({ cls := "RailingsCount$If", name := "<init>", desc := "(LRailingsCount$Asked;LRailingsCount$Sum;LRailingsCount$Sum;)V" } : Jvm.MethodName) "RailingsCount") ∈ lw_tbl := lw_at lw_m3 103 rfl
theorem q717 : (Jvm.Cond.methodLink "RailingsCount$Tokens" (201 : Nat) ({ cls := "RailingsCount$Tokens", name := "round", desc := "()LRailingsCount$Sum;" } : Jvm.MethodName)) ∈ lw_all := lw_g (lw_at lw_m3 117 rfl) rfl
theorem q718 : (Jvm.Cond.privateMethod ({ cls := "RailingsCount$Tokens", name := "round", desc := "()LRailingsCount$Sum;" } : Jvm.MethodName)) ∈ lw_tbl := lw_at lw_m3 118 rfl
theorem q719 : (Jvm.Cond.instanceMethod ({ cls := "RailingsCount$Tokens", name := "round", desc := "()LRailingsCount$Sum;" } : Jvm.MethodName)) ∈ lw_all := lw_g (lw_at lw_m3 119 rfl) rfl
theorem q720 : (Jvm.Cond.code ({ cls := "RailingsCount$Tokens", name := "round", desc := "()LRailingsCount$Sum;" } : Jvm.MethodName) prog_17_method_20_code (3 : Nat) (Option.some (Jvm.ClassFile.FieldType.object "RailingsCount$Sum"))) ∈ lw_all := lw_g (lw_at lw_m3 120 rfl) rfl
theorem q721 : (Jvm.Cond.classLink "RailingsCount$Tokens" (181 : Nat) "RailingsCount$Round") ∈ lw_all := lw_g (lw_at lw_m3 121 rfl) rfl
theorem q723 : (Jvm.Cond.methodLinkNest "RailingsCount$Tokens" (183 : Nat) ({ cls := "RailingsCount$Round", name := "<init>", desc := "(LRailingsCount$Sum;LRailingsCount$Sum;)V" } : Jvm.MethodName) "RailingsCount") ∈ lw_tbl := lw_at lw_m3 123 rfl
theorem q734 : (Jvm.Cond.methodLink "RailingsCount$Tokens" (204 : Nat) ({ cls := "RailingsCount$Tokens", name := "nameNow", desc := "()I" } : Jvm.MethodName)) ∈ lw_all := lw_g (lw_at lw_m3 134 rfl) rfl
theorem q735 : (Jvm.Cond.privateMethod ({ cls := "RailingsCount$Tokens", name := "nameNow", desc := "()I" } : Jvm.MethodName)) ∈ lw_tbl := lw_at lw_m3 135 rfl
theorem q736 : (Jvm.Cond.instanceMethod ({ cls := "RailingsCount$Tokens", name := "nameNow", desc := "()I" } : Jvm.MethodName)) ∈ lw_all := lw_g (lw_at lw_m3 136 rfl) rfl
theorem q737 : (Jvm.Cond.code ({ cls := "RailingsCount$Tokens", name := "nameNow", desc := "()I" } : Jvm.MethodName) prog_17_method_18_code (2 : Nat) (Option.some Jvm.ClassFile.FieldType.int)) ∈ lw_all := lw_g (lw_at lw_m3 137 rfl) rfl
theorem q738 : (Jvm.Cond.fieldLink "RailingsCount$Tokens" (177 : Nat) "RailingsCount$Tokens" "NAMED" "[I") ∈ lw_all := lw_g (lw_at lw_m3 138 rfl) rfl
theorem q739 : (Jvm.Cond.laysStatic "RailingsCount$Tokens" "NAMED" "[I") ∈ lw_tbl := lw_at lw_m3 139 rfl
theorem q740 : (Jvm.Cond.methodLink "RailingsCount$Tokens" (207 : Nat) ({ cls := "RailingsCount$Tokens", name := "mayName", desc := "(I)Z" } : Jvm.MethodName)) ∈ lw_all := lw_g (lw_at lw_m3 140 rfl) rfl
theorem q741 : (Jvm.Cond.privateMethod ({ cls := "RailingsCount$Tokens", name := "mayName", desc := "(I)Z" } : Jvm.MethodName)) ∈ lw_tbl := lw_at lw_m3 141 rfl
theorem q742 : (Jvm.Cond.instanceMethod ({ cls := "RailingsCount$Tokens", name := "mayName", desc := "(I)Z" } : Jvm.MethodName)) ∈ lw_all := lw_g (lw_at lw_m3 142 rfl) rfl
theorem q743 : (Jvm.Cond.code ({ cls := "RailingsCount$Tokens", name := "mayName", desc := "(I)Z" } : Jvm.MethodName) prog_17_method_19_code (2 : Nat) (Option.some Jvm.ClassFile.FieldType.boolean)) ∈ lw_all := lw_g (lw_at lw_m3 143 rfl) rfl
theorem q744 : (Jvm.Cond.classLink "RailingsCount$Tokens" (210 : Nat) "RailingsCount$Name") ∈ lw_all := lw_g (lw_at lw_m3 144 rfl) rfl
theorem q746 : (Jvm.Cond.methodLinkNest "RailingsCount$Tokens" (212 : Nat) ({ cls := "RailingsCount$Name", name := "<init>", desc := "(I)V" } : Jvm.MethodName) "RailingsCount") ∈ lw_tbl := lw_at lw_m3 146 rfl
theorem q754 : (Jvm.Cond.classLink "RailingsCount$Tokens" (213 : Nat) "RailingsCount$Kinds") ∈ lw_all := lw_g (lw_at lw_m3 154 rfl) rfl
theorem q756 : (Jvm.Cond.methodLinkNest "RailingsCount$Tokens" (215 : Nat) ({ cls := "RailingsCount$Kinds", name := "<init>", desc := "(LRailingsCount$Sum;)V" } : Jvm.MethodName) "RailingsCount") ∈ lw_tbl := lw_at lw_m3 156 rfl
theorem q764 : (Jvm.Cond.classLink "RailingsCount$Tokens" (216 : Nat) "RailingsCount$Minus") ∈ lw_all := lw_g (lw_at lw_m3 164 rfl) rfl
theorem q766 : (Jvm.Cond.methodLinkNest "RailingsCount$Tokens" (218 : Nat) ({ cls := "RailingsCount$Minus", name := "<init>", desc := "(LRailingsCount$Sum;)V" } : Jvm.MethodName) "RailingsCount") ∈ lw_tbl := lw_at lw_m3 166 rfl
theorem q774 : (Jvm.Cond.methodLink "RailingsCount$Tokens" (165 : Nat) ({ cls := "RailingsCount$Chain", name := "<init>", desc := "(LRailingsCount$Sum;)V" } : Jvm.MethodName)) ∈ lw_all := lw_g (lw_at lw_m3 174 rfl) rfl
theorem q790 : (Jvm.Cond.methodLink "RailingsCount$Tokens" (168 : Nat) ({ cls := "RailingsCount$Chain", name := "add", desc := "(ILRailingsCount$Sum;)V" } : Jvm.MethodName)) ∈ lw_all := lw_g (lw_at lw_m3 190 rfl) rfl
theorem q815 : (Jvm.Cond.methodLink "RailingsCount$Tokens" (171 : Nat) ({ cls := "RailingsCount$Chain", name := "itself", desc := "()LRailingsCount$Sum;" } : Jvm.MethodName)) ∈ lw_all := lw_g (lw_at lw_m3 215 rfl) rfl
theorem q823 : (Jvm.Cond.methodLink "RailingsCount$Tokens" (101 : Nat) ({ cls := "RailingsCount$Tokens", name := "doing", desc := "(I)LRailingsCount$Doing;" } : Jvm.MethodName)) ∈ lw_all := lw_g (lw_at lw_m3 223 rfl) rfl
theorem q824 : (Jvm.Cond.privateMethod ({ cls := "RailingsCount$Tokens", name := "doing", desc := "(I)LRailingsCount$Doing;" } : Jvm.MethodName)) ∈ lw_tbl := lw_at lw_m3 224 rfl
theorem q825 : (Jvm.Cond.instanceMethod ({ cls := "RailingsCount$Tokens", name := "doing", desc := "(I)LRailingsCount$Doing;" } : Jvm.MethodName)) ∈ lw_all := lw_g (lw_at lw_m3 225 rfl) rfl
theorem q826 : (Jvm.Cond.code ({ cls := "RailingsCount$Tokens", name := "doing", desc := "(I)LRailingsCount$Doing;" } : Jvm.MethodName) prog_17_method_12_code (2 : Nat) (Option.some (Jvm.ClassFile.FieldType.object "RailingsCount$Doing"))) ∈ lw_all := lw_g (lw_at lw_m3 226 rfl) rfl
theorem q827 : (Jvm.Cond.methodLink "RailingsCount$Tokens" (122 : Nat) ({ cls := "RailingsCount$Tokens", name := "two", desc := "(IIIII)LRailingsCount$Doing;" } : Jvm.MethodName)) ∈ lw_all := lw_g (lw_at lw_m3 227 rfl) rfl
theorem q828 : (Jvm.Cond.privateMethod ({ cls := "RailingsCount$Tokens", name := "two", desc := "(IIIII)LRailingsCount$Doing;" } : Jvm.MethodName)) ∈ lw_tbl := lw_at lw_m3 228 rfl
theorem q829 : (Jvm.Cond.instanceMethod ({ cls := "RailingsCount$Tokens", name := "two", desc := "(IIIII)LRailingsCount$Doing;" } : Jvm.MethodName)) ∈ lw_all := lw_g (lw_at lw_m3 229 rfl) rfl
theorem q830 : (Jvm.Cond.code ({ cls := "RailingsCount$Tokens", name := "two", desc := "(IIIII)LRailingsCount$Doing;" } : Jvm.MethodName) prog_17_method_11_code (7 : Nat) (Option.some (Jvm.ClassFile.FieldType.object "RailingsCount$Doing"))) ∈ lw_all := lw_g (lw_at lw_m3 230 rfl) rfl
theorem q831 : (Jvm.Cond.classLink "RailingsCount$Tokens" (117 : Nat) "RailingsCount$Doing") ∈ lw_all := lw_g (lw_at lw_m3 231 rfl) rfl
theorem q833 : (Jvm.Cond.methodLinkNest "RailingsCount$Tokens" (119 : Nat) ({ cls := "RailingsCount$Doing", name := "<init>", desc := "(IIII)V" } : Jvm.MethodName) "RailingsCount") ∈ lw_tbl := lw_at lw_m3 233 rfl
theorem q2021 : (Jvm.Cond.castable "RailingsCount$Tokens" "java/lang/Object") ∈ lw_tbl := lw_at lw_m8 221 rfl
theorem q2051 : (Jvm.Cond.stringRef "RailingsCount$Tokens" (219 : Nat) "catches") ∈ lw_tbl := lw_at lw_m9 11 rfl
theorem q2052 : (Jvm.Cond.stringRef "RailingsCount$Tokens" (221 : Nat) "paints") ∈ lw_tbl := lw_at lw_m9 12 rfl
theorem q2053 : (Jvm.Cond.stringRef "RailingsCount$Tokens" (223 : Nat) "place") ∈ lw_tbl := lw_at lw_m9 13 rfl
theorem q2054 : (Jvm.Cond.stringRef "RailingsCount$Tokens" (225 : Nat) "paint") ∈ lw_tbl := lw_at lw_m9 14 rfl
theorem q2055 : (Jvm.Cond.stringRef "RailingsCount$Tokens" (227 : Nat) "child") ∈ lw_tbl := lw_at lw_m9 15 rfl
theorem q2056 : (Jvm.Cond.stringRef "RailingsCount$Tokens" (229 : Nat) "run") ∈ lw_tbl := lw_at lw_m9 16 rfl
theorem q2057 : (Jvm.Cond.stringRef "RailingsCount$Tokens" (231 : Nat) "cut") ∈ lw_tbl := lw_at lw_m9 17 rfl
theorem q2058 : (Jvm.Cond.stringRef "RailingsCount$Tokens" (233 : Nat) "add") ∈ lw_tbl := lw_at lw_m9 18 rfl
theorem q2059 : (Jvm.Cond.stringRef "RailingsCount$Tokens" (234 : Nat) "year") ∈ lw_tbl := lw_at lw_m9 19 rfl
theorem q2060 : (Jvm.Cond.stringRef "RailingsCount$Tokens" (236 : Nat) "kind") ∈ lw_tbl := lw_at lw_m9 20 rfl
theorem q2061 : (Jvm.Cond.stringRef "RailingsCount$Tokens" (237 : Nat) "at") ∈ lw_tbl := lw_at lw_m9 21 rfl
theorem q2062 : (Jvm.Cond.stringRef "RailingsCount$Tokens" (238 : Nat) "luck") ∈ lw_tbl := lw_at lw_m9 22 rfl
theorem q2063 : (Jvm.Cond.stringRef "RailingsCount$Tokens" (240 : Nat) "from") ∈ lw_tbl := lw_at lw_m9 23 rfl
theorem q2064 : (Jvm.Cond.stringRef "RailingsCount$Tokens" (242 : Nat) "round") ∈ lw_tbl := lw_at lw_m9 24 rfl
theorem q2065 : (Jvm.Cond.stringRef "RailingsCount$Tokens" (243 : Nat) "of") ∈ lw_tbl := lw_at lw_m9 25 rfl
theorem q2066 : (Jvm.Cond.stringRef "RailingsCount$Tokens" (245 : Nat) "kinds") ∈ lw_tbl := lw_at lw_m9 26 rfl
theorem q2067 : (Jvm.Cond.stringRef "RailingsCount$Tokens" (247 : Nat) "if") ∈ lw_tbl := lw_at lw_m9 27 rfl
theorem q2068 : (Jvm.Cond.stringRef "RailingsCount$Tokens" (249 : Nat) "then") ∈ lw_tbl := lw_at lw_m9 28 rfl
theorem q2069 : (Jvm.Cond.stringRef "RailingsCount$Tokens" (251 : Nat) "else") ∈ lw_tbl := lw_at lw_m9 29 rfl
theorem q2070 : (Jvm.Cond.stringRef "RailingsCount$Tokens" (253 : Nat) "end") ∈ lw_tbl := lw_at lw_m9 30 rfl
theorem q2071 : (Jvm.Cond.stringRef "RailingsCount$Tokens" (255 : Nat) "or") ∈ lw_tbl := lw_at lw_m9 31 rfl
theorem q2072 : (Jvm.Cond.stringRef "RailingsCount$Tokens" (257 : Nat) "and") ∈ lw_tbl := lw_at lw_m9 32 rfl
theorem q2073 : (Jvm.Cond.stringRef "RailingsCount$Tokens" (259 : Nat) "not") ∈ lw_tbl := lw_at lw_m9 33 rfl
theorem q2074 : (Jvm.Cond.stringRef "RailingsCount$Tokens" (261 : Nat) "count") ∈ lw_tbl := lw_at lw_m9 34 rfl
theorem q2075 : (Jvm.Cond.stringRef "RailingsCount$Tokens" (263 : Nat) "stride") ∈ lw_tbl := lw_at lw_m9 35 rfl
theorem q2076 : (Jvm.Cond.stringRef "RailingsCount$Tokens" (265 : Nat) "who") ∈ lw_tbl := lw_at lw_m9 36 rfl
theorem in_X3 : ∀ w ∈ wsX30, w ∈ lw_all := lw_in wsX30 [320, 322, 324, 326, 328, 330, 332, 334] (by decide +kernel) (by decide +kernel)
/-! RailingsCount$Wrong -/
set_option maxRecDepth 100000
def RX5 : String := "RailingsCount$Wrong"
def TX5 : u_T := fun k => match k with
  | 0 => ("java/lang/Throwable", "cause", "Ljava/lang/Throwable;", false)
  | 1 => ("java/lang/Throwable", "stackTrace", "[Ljava/lang/StackTraceElement;", false)
  | 2 => ("java/lang/Throwable", "suppressedExceptions", "Ljava/util/List;", false)
  | 3 => ("java/lang/Throwable", "detailMessage", "Ljava/lang/String;", false)
  | 4 => ("java/lang/Throwable", "backtrace", "Ljava/lang/Object;", false)
  | 5 => ("java/lang/Throwable", "depth", "I", false)
  | 6 => ("RailingsCount$Wrong", "fault", "I", true)
  | _ => ("RailingsCount$Wrong", "place", "I", true)
def tyX5 : Nat → FieldType := fun k => match k with
  | 0 => .object "java/lang/Throwable"
  | 1 => .array (.object "java/lang/StackTraceElement")
  | 2 => .object "java/util/List"
  | 3 => .object "java/lang/String"
  | 4 => .object "java/lang/Object"
  | 5 => .int
  | 6 => .int
  | _ => .int
abbrev wsX50 : List Cond := u_ws RX5 TX5 8
theorem nmX5 : ∀ a, a < 8 → ∀ b, b < 8 → a ≠ b → (TX5 a).2.1 ≠ (TX5 b).2.1 := by decide +kernel
theorem tyX5_ok : ∀ k, k < 8 → parseFieldDescriptor (TX5 k).2.2.1 = some (tyX5 k) := by decide +kernel
abbrev cX5_init : ByteArray := prog_18_method_1_code
def yX5_init : MethodName := ⟨RX5, "<init>", "(II)V"⟩
def dkwX5_init_0 : List UInt8 := [42, 183, 0, 1, 42, 27, 181, 0, 7, 42, 28, 181, 0, 13, 177]
abbrev dktX5_init_0 : List UInt8 := dkwX5_init_0 ++ []
theorem dksX5_init_0 : cX5_init.data.toList.drop 0 = dktX5_init_0 := by decide +kernel
theorem dX5_init_0 : decode cX5_init 0 = .ok (.aload_n 0, 1) := dk_42 (dk_at dksX5_init_0 0 rfl rfl)
theorem dX5_init_1 : decode cX5_init 1 = .ok (.invokespecial 1, 3) := dk_183 0 1 (dk_at dksX5_init_0 1 rfl rfl)
theorem dX5_init_4 : decode cX5_init 4 = .ok (.aload_n 0, 1) := dk_42 (dk_at dksX5_init_0 4 rfl rfl)
theorem dX5_init_5 : decode cX5_init 5 = .ok (.iload_n 1, 1) := dk_27 (dk_at dksX5_init_0 5 rfl rfl)
theorem dX5_init_6 : decode cX5_init 6 = .ok (.putfield 7, 3) := dk_181 0 7 (dk_at dksX5_init_0 6 rfl rfl)
theorem dX5_init_9 : decode cX5_init 9 = .ok (.aload_n 0, 1) := dk_42 (dk_at dksX5_init_0 9 rfl rfl)
theorem dX5_init_10 : decode cX5_init 10 = .ok (.iload_n 2, 1) := dk_28 (dk_at dksX5_init_0 10 rfl rfl)
theorem dX5_init_11 : decode cX5_init 11 = .ok (.putfield 13, 3) := dk_181 0 13 (dk_at dksX5_init_0 11 rfl rfl)
theorem dX5_init_14 : decode cX5_init 14 = .ok (.return_, 1) := dk_177 (dk_at dksX5_init_0 14 rfl rfl)
theorem q138 : (Jvm.Cond.initialized "RailingsCount$Wrong") ∈ lw_all := lw_g (lw_at lw_m1 18 rfl) rfl
theorem q463 : (Jvm.Cond.instantiable "RailingsCount$Wrong" (8 : Nat)) ∈ lw_all := lw_g (lw_at lw_m2 103 rfl) rfl
theorem q464 : (Jvm.Cond.castable "RailingsCount$Wrong" "RailingsCount$Wrong") ∈ lw_tbl := lw_at lw_m2 104 rfl
theorem q469 : (Jvm.Cond.selects "RailingsCount$Wrong" ({ cls := "java/lang/Throwable", name := "fillInStackTrace", desc := "(I)Ljava/lang/Throwable;" } : Jvm.MethodName) ({ cls := "java/lang/Throwable", name := "fillInStackTrace", desc := "(I)Ljava/lang/Throwable;" } : Jvm.MethodName)) ∈ lw_all := lw_g (lw_at lw_m2 109 rfl) rfl
theorem q470 : (Jvm.Cond.selects "RailingsCount$Wrong" ({ cls := "java/lang/Throwable", name := "fillInStackTrace", desc := "()Ljava/lang/Throwable;" } : Jvm.MethodName) ({ cls := "java/lang/Throwable", name := "fillInStackTrace", desc := "()Ljava/lang/Throwable;" } : Jvm.MethodName)) ∈ lw_all := lw_g (lw_at lw_m2 110 rfl) rfl
theorem q471 : (Jvm.Cond.lays "RailingsCount$Wrong" "java/lang/Throwable" "cause" "Ljava/lang/Throwable;") ∈ lw_all := lw_g (lw_at lw_m2 111 rfl) rfl
theorem q473 : (Jvm.Cond.lays "RailingsCount$Wrong" "java/lang/Throwable" "stackTrace" "[Ljava/lang/StackTraceElement;") ∈ lw_all := lw_g (lw_at lw_m2 113 rfl) rfl
theorem q475 : (Jvm.Cond.lays "RailingsCount$Wrong" "java/lang/Throwable" "suppressedExceptions" "Ljava/util/List;") ∈ lw_all := lw_g (lw_at lw_m2 115 rfl) rfl
theorem q477 : (Jvm.Cond.lays "RailingsCount$Wrong" "java/lang/Throwable" "detailMessage" "Ljava/lang/String;") ∈ lw_all := lw_g (lw_at lw_m2 117 rfl) rfl
theorem q479 : (Jvm.Cond.lays "RailingsCount$Wrong" "java/lang/Throwable" "backtrace" "Ljava/lang/Object;") ∈ lw_all := lw_g (lw_at lw_m2 119 rfl) rfl
theorem q500 : (Jvm.Cond.instanceMethod ({ cls := "RailingsCount$Wrong", name := "<init>", desc := "(II)V" } : Jvm.MethodName)) ∈ lw_all := lw_g (lw_at lw_m2 140 rfl) rfl
theorem q501 : (Jvm.Cond.code ({ cls := "RailingsCount$Wrong", name := "<init>", desc := "(II)V" } : Jvm.MethodName) prog_18_method_1_code (3 : Nat) (Option.none : Option Jvm.ClassFile.FieldType)) ∈ lw_all := lw_g (lw_at lw_m2 141 rfl) rfl
theorem q502 : (Jvm.Cond.methodLink "RailingsCount$Wrong" (1 : Nat) ({ cls := "java/lang/Exception", name := "<init>", desc := "()V" } : Jvm.MethodName)) ∈ lw_all := lw_g (lw_at lw_m2 142 rfl) rfl
theorem q506 : (Jvm.Cond.fieldLink "RailingsCount$Wrong" (7 : Nat) "RailingsCount$Wrong" "fault" "I") ∈ lw_all := lw_g (lw_at lw_m2 146 rfl) rfl
theorem q508 : (Jvm.Cond.fieldLink "RailingsCount$Wrong" (13 : Nat) "RailingsCount$Wrong" "place" "I") ∈ lw_all := lw_g (lw_at lw_m2 148 rfl) rfl
theorem q514 : (Jvm.Cond.laysFinal "RailingsCount$Wrong" "RailingsCount$Wrong" "fault" "I") ∈ lw_all := lw_g (lw_at lw_m2 154 rfl) rfl
theorem q515 : (Jvm.Cond.soleField "RailingsCount$Wrong" "fault") ∈ lw_all := lw_g (lw_at lw_m2 155 rfl) rfl
theorem q516 : (Jvm.Cond.laysFinal "RailingsCount$Wrong" "RailingsCount$Wrong" "place" "I") ∈ lw_all := lw_g (lw_at lw_m2 156 rfl) rfl
theorem q517 : (Jvm.Cond.soleField "RailingsCount$Wrong" "place") ∈ lw_all := lw_g (lw_at lw_m2 157 rfl) rfl
theorem q522 : (Jvm.Cond.lays "RailingsCount$Wrong" "java/lang/Throwable" "depth" "I") ∈ lw_all := lw_g (lw_at lw_m2 162 rfl) rfl
theorem q525 : (Jvm.Cond.superclass "RailingsCount$Wrong" "java/lang/Exception") ∈ lw_all := lw_g (lw_at lw_m2 165 rfl) rfl
theorem q652 : (Jvm.Cond.selects "RailingsCount$Wrong" ({ cls := "java/lang/Object", name := "getClass", desc := "()Ljava/lang/Class;" } : Jvm.MethodName) ({ cls := "java/lang/Object", name := "getClass", desc := "()Ljava/lang/Class;" } : Jvm.MethodName)) ∈ lw_all := lw_g (lw_at lw_m3 52 rfl) rfl
theorem q2023 : (Jvm.Cond.castable "RailingsCount$Wrong" "java/lang/Object") ∈ lw_tbl := lw_at lw_m8 223 rfl
theorem in_X5 : ∀ w ∈ wsX50, w ∈ lw_all := lw_in wsX50 [471, 473, 475, 477, 479, 522, 514, 516] (by decide +kernel) (by decide +kernel)
/-! RailingsCount$Chain -/
set_option maxRecDepth 100000
def RX6 : String := "RailingsCount$Chain"
def TX6 : u_T := fun k => match k with
  | 0 => ("RailingsCount$Chain", "first", "LRailingsCount$Sum;", true)
  | 1 => ("RailingsCount$Chain", "more", "Ljava/util/ArrayList;", true)
  | _ => ("RailingsCount$Chain", "signs", "Ljava/util/ArrayList;", true)
def tyX6 : Nat → FieldType := fun k => match k with
  | 0 => .object "RailingsCount$Sum"
  | 1 => .object "java/util/ArrayList"
  | _ => .object "java/util/ArrayList"
abbrev wsX60 : List Cond := u_ws RX6 TX6 3
theorem nmX6 : ∀ a, a < 3 → ∀ b, b < 3 → a ≠ b → (TX6 a).2.1 ≠ (TX6 b).2.1 := by decide +kernel
theorem tyX6_ok : ∀ k, k < 3 → parseFieldDescriptor (TX6 k).2.2.1 = some (tyX6 k) := by decide +kernel
abbrev cX6_init : ByteArray := prog_4_method_1_code
def yX6_init : MethodName := ⟨RX6, "<init>", "(LRailingsCount$Sum;)V"⟩
def dkwX6_init_1 : List UInt8 := [181, 0, 18, 42, 43, 181, 0, 21, 177]
abbrev dktX6_init_1 : List UInt8 := dkwX6_init_1 ++ []
def dkwX6_init_0 : List UInt8 := [42, 183, 0, 3, 42, 187, 0, 9, 89, 183, 0, 11, 181, 0, 12, 42, 187, 0, 9, 89, 183, 0, 11]
abbrev dktX6_init_0 : List UInt8 := dkwX6_init_0 ++ dktX6_init_1
theorem dksX6_init_0 : cX6_init.data.toList.drop 0 = dktX6_init_0 := by decide +kernel
theorem dksX6_init_1 : cX6_init.data.toList.drop 23 = dktX6_init_1 := dk_seg dksX6_init_0 23 rfl rfl
theorem dX6_init_0 : decode cX6_init 0 = .ok (.aload_n 0, 1) := dk_42 (dk_at dksX6_init_0 0 rfl rfl)
theorem dX6_init_1 : decode cX6_init 1 = .ok (.invokespecial 3, 3) := dk_183 0 3 (dk_at dksX6_init_0 1 rfl rfl)
theorem dX6_init_4 : decode cX6_init 4 = .ok (.aload_n 0, 1) := dk_42 (dk_at dksX6_init_0 4 rfl rfl)
theorem dX6_init_5 : decode cX6_init 5 = .ok (.new 9, 3) := dk_187 0 9 (dk_at dksX6_init_0 5 rfl rfl)
theorem dX6_init_8 : decode cX6_init 8 = .ok (.dup, 1) := dk_89 (dk_at dksX6_init_0 8 rfl rfl)
theorem dX6_init_9 : decode cX6_init 9 = .ok (.invokespecial 11, 3) := dk_183 0 11 (dk_at dksX6_init_0 9 rfl rfl)
theorem dX6_init_12 : decode cX6_init 12 = .ok (.putfield 12, 3) := dk_181 0 12 (dk_at dksX6_init_0 12 rfl rfl)
theorem dX6_init_15 : decode cX6_init 15 = .ok (.aload_n 0, 1) := dk_42 (dk_at dksX6_init_0 15 rfl rfl)
theorem dX6_init_16 : decode cX6_init 16 = .ok (.new 9, 3) := dk_187 0 9 (dk_at dksX6_init_0 16 rfl rfl)
theorem dX6_init_19 : decode cX6_init 19 = .ok (.dup, 1) := dk_89 (dk_at dksX6_init_0 19 rfl rfl)
theorem dX6_init_20 : decode cX6_init 20 = .ok (.invokespecial 11, 3) := dk_183 0 11 (dk_at dksX6_init_0 20 rfl rfl)
theorem dX6_init_23 : decode cX6_init 23 = .ok (.putfield 18, 3) := dk_181 0 18 (dk_at dksX6_init_1 0 rfl rfl)
theorem dX6_init_26 : decode cX6_init 26 = .ok (.aload_n 0, 1) := dk_42 (dk_at dksX6_init_1 3 rfl rfl)
theorem dX6_init_27 : decode cX6_init 27 = .ok (.aload_n 1, 1) := dk_43 (dk_at dksX6_init_1 4 rfl rfl)
theorem dX6_init_28 : decode cX6_init 28 = .ok (.putfield 21, 3) := dk_181 0 21 (dk_at dksX6_init_1 5 rfl rfl)
theorem dX6_init_31 : decode cX6_init 31 = .ok (.return_, 1) := dk_177 (dk_at dksX6_init_1 8 rfl rfl)
abbrev cX6_add : ByteArray := prog_4_method_2_code
def yX6_add : MethodName := ⟨RX6, "add", "(ILRailingsCount$Sum;)V"⟩
def dkwX6_add_0 : List UInt8 := [42, 180, 0, 18, 27, 184, 0, 25, 182, 0, 31, 87, 42, 180, 0, 12, 44, 182, 0, 31, 87, 177]
abbrev dktX6_add_0 : List UInt8 := dkwX6_add_0 ++ []
theorem dksX6_add_0 : cX6_add.data.toList.drop 0 = dktX6_add_0 := by decide +kernel
theorem dX6_add_0 : decode cX6_add 0 = .ok (.aload_n 0, 1) := dk_42 (dk_at dksX6_add_0 0 rfl rfl)
theorem dX6_add_1 : decode cX6_add 1 = .ok (.getfield 18, 3) := dk_180 0 18 (dk_at dksX6_add_0 1 rfl rfl)
theorem dX6_add_4 : decode cX6_add 4 = .ok (.iload_n 1, 1) := dk_27 (dk_at dksX6_add_0 4 rfl rfl)
theorem dX6_add_5 : decode cX6_add 5 = .ok (.invokestatic 25, 3) := dk_184 0 25 (dk_at dksX6_add_0 5 rfl rfl)
theorem dX6_add_8 : decode cX6_add 8 = .ok (.invokevirtual 31, 3) := dk_182 0 31 (dk_at dksX6_add_0 8 rfl rfl)
theorem dX6_add_11 : decode cX6_add 11 = .ok (.pop, 1) := dk_87 (dk_at dksX6_add_0 11 rfl rfl)
theorem dX6_add_12 : decode cX6_add 12 = .ok (.aload_n 0, 1) := dk_42 (dk_at dksX6_add_0 12 rfl rfl)
theorem dX6_add_13 : decode cX6_add 13 = .ok (.getfield 12, 3) := dk_180 0 12 (dk_at dksX6_add_0 13 rfl rfl)
theorem dX6_add_16 : decode cX6_add 16 = .ok (.aload_n 2, 1) := dk_44 (dk_at dksX6_add_0 16 rfl rfl)
theorem dX6_add_17 : decode cX6_add 17 = .ok (.invokevirtual 31, 3) := dk_182 0 31 (dk_at dksX6_add_0 17 rfl rfl)
theorem dX6_add_20 : decode cX6_add 20 = .ok (.pop, 1) := dk_87 (dk_at dksX6_add_0 20 rfl rfl)
theorem dX6_add_21 : decode cX6_add 21 = .ok (.return_, 1) := dk_177 (dk_at dksX6_add_0 21 rfl rfl)
abbrev cX6_itself : ByteArray := prog_4_method_3_code
def yX6_itself : MethodName := ⟨RX6, "itself", "()LRailingsCount$Sum;"⟩
def dkwX6_itself_0 : List UInt8 := [42, 180, 0, 12, 182, 0, 35, 153, 0, 10, 42, 180, 0, 21, 167, 0, 4, 42, 176]
abbrev dktX6_itself_0 : List UInt8 := dkwX6_itself_0 ++ []
theorem dksX6_itself_0 : cX6_itself.data.toList.drop 0 = dktX6_itself_0 := by decide +kernel
theorem dX6_itself_0 : decode cX6_itself 0 = .ok (.aload_n 0, 1) := dk_42 (dk_at dksX6_itself_0 0 rfl rfl)
theorem dX6_itself_1 : decode cX6_itself 1 = .ok (.getfield 12, 3) := dk_180 0 12 (dk_at dksX6_itself_0 1 rfl rfl)
theorem dX6_itself_4 : decode cX6_itself 4 = .ok (.invokevirtual 35, 3) := dk_182 0 35 (dk_at dksX6_itself_0 4 rfl rfl)
theorem dX6_itself_7 : decode cX6_itself 7 = .ok (.ifCond .eq 10, 3) := dk_153 0 10 (dk_at dksX6_itself_0 7 rfl rfl)
theorem dX6_itself_10 : decode cX6_itself 10 = .ok (.aload_n 0, 1) := dk_42 (dk_at dksX6_itself_0 10 rfl rfl)
theorem dX6_itself_11 : decode cX6_itself 11 = .ok (.getfield 21, 3) := dk_180 0 21 (dk_at dksX6_itself_0 11 rfl rfl)
theorem dX6_itself_14 : decode cX6_itself 14 = .ok (.goto 4, 3) := dk_167 0 4 (dk_at dksX6_itself_0 14 rfl rfl)
theorem dX6_itself_17 : decode cX6_itself 17 = .ok (.aload_n 0, 1) := dk_42 (dk_at dksX6_itself_0 17 rfl rfl)
theorem dX6_itself_18 : decode cX6_itself 18 = .ok (.areturn, 1) := dk_176 (dk_at dksX6_itself_0 18 rfl rfl)
abbrev cX6_of : ByteArray := prog_4_method_4_code
def yX6_of : MethodName := ⟨RX6, "of", "([I)J"⟩
def dkwX6_of_6 : List UInt8 := [32, 173]
abbrev dktX6_of_6 : List UInt8 := dkwX6_of_6 ++ []
def dkwX6_of_5 : List UInt8 := [109, 55, 8, 20, 0, 56, 20, 0, 58, 22, 8, 184, 0, 60, 184, 0, 66, 65, 132, 4, 1, 167, 255, 130]
abbrev dktX6_of_5 : List UInt8 := dkwX6_of_5 ++ dktX6_of_6
def dkwX6_of_4 : List UInt8 := [160, 0, 10, 32, 22, 5, 105, 167, 0, 18, 22, 5, 9, 148, 154, 0, 7, 9, 167, 0, 7, 32, 22, 5]
abbrev dktX6_of_4 : List UInt8 := dkwX6_of_4 ++ dktX6_of_5
def dkwX6_of_3 : List UInt8 := [22, 5, 97, 167, 0, 46, 21, 7, 16, 45, 160, 0, 10, 32, 22, 5, 101, 167, 0, 32, 21, 7, 16, 42]
abbrev dktX6_of_3 : List UInt8 := dkwX6_of_3 ++ dktX6_of_4
def dkwX6_of_2 : List UInt8 := [180, 0, 18, 21, 4, 182, 0, 49, 192, 0, 26, 182, 0, 53, 54, 7, 21, 7, 16, 43, 160, 0, 10, 32]
abbrev dktX6_of_2 : List UInt8 := dkwX6_of_2 ++ dktX6_of_3
def dkwX6_of_1 : List UInt8 := [162, 0, 120, 42, 180, 0, 12, 21, 4, 182, 0, 49, 192, 0, 40, 43, 185, 0, 39, 2, 0, 55, 5, 42]
abbrev dktX6_of_1 : List UInt8 := dkwX6_of_1 ++ dktX6_of_2
def dkwX6_of_0 : List UInt8 := [42, 180, 0, 21, 43, 185, 0, 39, 2, 0, 65, 3, 54, 4, 21, 4, 42, 180, 0, 12, 182, 0, 45]
abbrev dktX6_of_0 : List UInt8 := dkwX6_of_0 ++ dktX6_of_1
theorem dksX6_of_0 : cX6_of.data.toList.drop 0 = dktX6_of_0 := by decide +kernel
theorem dksX6_of_1 : cX6_of.data.toList.drop 23 = dktX6_of_1 := dk_seg dksX6_of_0 23 rfl rfl
theorem dksX6_of_2 : cX6_of.data.toList.drop 47 = dktX6_of_2 := dk_seg dksX6_of_1 24 rfl rfl
theorem dksX6_of_3 : cX6_of.data.toList.drop 71 = dktX6_of_3 := dk_seg dksX6_of_2 24 rfl rfl
theorem dksX6_of_4 : cX6_of.data.toList.drop 95 = dktX6_of_4 := dk_seg dksX6_of_3 24 rfl rfl
theorem dksX6_of_5 : cX6_of.data.toList.drop 119 = dktX6_of_5 := dk_seg dksX6_of_4 24 rfl rfl
theorem dksX6_of_6 : cX6_of.data.toList.drop 143 = dktX6_of_6 := dk_seg dksX6_of_5 24 rfl rfl
theorem dX6_of_0 : decode cX6_of 0 = .ok (.aload_n 0, 1) := dk_42 (dk_at dksX6_of_0 0 rfl rfl)
theorem dX6_of_1 : decode cX6_of 1 = .ok (.getfield 21, 3) := dk_180 0 21 (dk_at dksX6_of_0 1 rfl rfl)
theorem dX6_of_4 : decode cX6_of 4 = .ok (.aload_n 1, 1) := dk_43 (dk_at dksX6_of_0 4 rfl rfl)
theorem dX6_of_5 : decode cX6_of 5 = .ok (.invokeinterface 39 2, 5) := by decide +kernel
theorem dX6_of_10 : decode cX6_of 10 = .ok (.lstore_n 2, 1) := dk_65 (dk_at dksX6_of_0 10 rfl rfl)
theorem dX6_of_11 : decode cX6_of 11 = .ok (.iconst 0, 1) := dk_3 (dk_at dksX6_of_0 11 rfl rfl)
theorem dX6_of_12 : decode cX6_of 12 = .ok (.istore 4, 2) := dk_54 4 (dk_at dksX6_of_0 12 rfl rfl)
theorem dX6_of_14 : decode cX6_of 14 = .ok (.iload 4, 2) := dk_21 4 (dk_at dksX6_of_0 14 rfl rfl)
theorem dX6_of_16 : decode cX6_of 16 = .ok (.aload_n 0, 1) := dk_42 (dk_at dksX6_of_0 16 rfl rfl)
theorem dX6_of_17 : decode cX6_of 17 = .ok (.getfield 12, 3) := dk_180 0 12 (dk_at dksX6_of_0 17 rfl rfl)
theorem dX6_of_20 : decode cX6_of 20 = .ok (.invokevirtual 45, 3) := dk_182 0 45 (dk_at dksX6_of_0 20 rfl rfl)
theorem dX6_of_23 : decode cX6_of 23 = .ok (.if_icmp .ge 120, 3) := dk_162 0 120 (dk_at dksX6_of_1 0 rfl rfl)
theorem dX6_of_26 : decode cX6_of 26 = .ok (.aload_n 0, 1) := dk_42 (dk_at dksX6_of_1 3 rfl rfl)
theorem dX6_of_27 : decode cX6_of 27 = .ok (.getfield 12, 3) := dk_180 0 12 (dk_at dksX6_of_1 4 rfl rfl)
theorem dX6_of_30 : decode cX6_of 30 = .ok (.iload 4, 2) := dk_21 4 (dk_at dksX6_of_1 7 rfl rfl)
theorem dX6_of_32 : decode cX6_of 32 = .ok (.invokevirtual 49, 3) := dk_182 0 49 (dk_at dksX6_of_1 9 rfl rfl)
theorem dX6_of_35 : decode cX6_of 35 = .ok (.checkcast 40, 3) := dk_192 0 40 (dk_at dksX6_of_1 12 rfl rfl)
theorem dX6_of_38 : decode cX6_of 38 = .ok (.aload_n 1, 1) := dk_43 (dk_at dksX6_of_1 15 rfl rfl)
theorem dX6_of_39 : decode cX6_of 39 = .ok (.invokeinterface 39 2, 5) := by decide +kernel
theorem dX6_of_44 : decode cX6_of 44 = .ok (.lstore 5, 2) := dk_55 5 (dk_at dksX6_of_1 21 rfl rfl)
theorem dX6_of_46 : decode cX6_of 46 = .ok (.aload_n 0, 1) := dk_42 (dk_at dksX6_of_1 23 rfl rfl)
theorem dX6_of_47 : decode cX6_of 47 = .ok (.getfield 18, 3) := dk_180 0 18 (dk_at dksX6_of_2 0 rfl rfl)
theorem dX6_of_50 : decode cX6_of 50 = .ok (.iload 4, 2) := dk_21 4 (dk_at dksX6_of_2 3 rfl rfl)
theorem dX6_of_52 : decode cX6_of 52 = .ok (.invokevirtual 49, 3) := dk_182 0 49 (dk_at dksX6_of_2 5 rfl rfl)
theorem dX6_of_55 : decode cX6_of 55 = .ok (.checkcast 26, 3) := dk_192 0 26 (dk_at dksX6_of_2 8 rfl rfl)
theorem dX6_of_58 : decode cX6_of 58 = .ok (.invokevirtual 53, 3) := dk_182 0 53 (dk_at dksX6_of_2 11 rfl rfl)
theorem dX6_of_61 : decode cX6_of 61 = .ok (.istore 7, 2) := dk_54 7 (dk_at dksX6_of_2 14 rfl rfl)
theorem dX6_of_63 : decode cX6_of 63 = .ok (.iload 7, 2) := dk_21 7 (dk_at dksX6_of_2 16 rfl rfl)
theorem dX6_of_65 : decode cX6_of 65 = .ok (.bipush 43, 2) := dk_16 43 (dk_at dksX6_of_2 18 rfl rfl)
theorem dX6_of_67 : decode cX6_of 67 = .ok (.if_icmp .ne 10, 3) := dk_160 0 10 (dk_at dksX6_of_2 20 rfl rfl)
theorem dX6_of_70 : decode cX6_of 70 = .ok (.lload_n 2, 1) := dk_32 (dk_at dksX6_of_2 23 rfl rfl)
theorem dX6_of_71 : decode cX6_of 71 = .ok (.lload 5, 2) := dk_22 5 (dk_at dksX6_of_3 0 rfl rfl)
theorem dX6_of_73 : decode cX6_of 73 = .ok (.ladd, 1) := dk_97 (dk_at dksX6_of_3 2 rfl rfl)
theorem dX6_of_74 : decode cX6_of 74 = .ok (.goto 46, 3) := dk_167 0 46 (dk_at dksX6_of_3 3 rfl rfl)
theorem dX6_of_77 : decode cX6_of 77 = .ok (.iload 7, 2) := dk_21 7 (dk_at dksX6_of_3 6 rfl rfl)
theorem dX6_of_79 : decode cX6_of 79 = .ok (.bipush 45, 2) := dk_16 45 (dk_at dksX6_of_3 8 rfl rfl)
theorem dX6_of_81 : decode cX6_of 81 = .ok (.if_icmp .ne 10, 3) := dk_160 0 10 (dk_at dksX6_of_3 10 rfl rfl)
theorem dX6_of_84 : decode cX6_of 84 = .ok (.lload_n 2, 1) := dk_32 (dk_at dksX6_of_3 13 rfl rfl)
theorem dX6_of_85 : decode cX6_of 85 = .ok (.lload 5, 2) := dk_22 5 (dk_at dksX6_of_3 14 rfl rfl)
theorem dX6_of_87 : decode cX6_of 87 = .ok (.lsub, 1) := dk_101 (dk_at dksX6_of_3 16 rfl rfl)
theorem dX6_of_88 : decode cX6_of 88 = .ok (.goto 32, 3) := dk_167 0 32 (dk_at dksX6_of_3 17 rfl rfl)
theorem dX6_of_91 : decode cX6_of 91 = .ok (.iload 7, 2) := dk_21 7 (dk_at dksX6_of_3 20 rfl rfl)
theorem dX6_of_93 : decode cX6_of 93 = .ok (.bipush 42, 2) := dk_16 42 (dk_at dksX6_of_3 22 rfl rfl)
theorem dX6_of_95 : decode cX6_of 95 = .ok (.if_icmp .ne 10, 3) := dk_160 0 10 (dk_at dksX6_of_4 0 rfl rfl)
theorem dX6_of_98 : decode cX6_of 98 = .ok (.lload_n 2, 1) := dk_32 (dk_at dksX6_of_4 3 rfl rfl)
theorem dX6_of_99 : decode cX6_of 99 = .ok (.lload 5, 2) := dk_22 5 (dk_at dksX6_of_4 4 rfl rfl)
theorem dX6_of_101 : decode cX6_of 101 = .ok (.lmul, 1) := dk_105 (dk_at dksX6_of_4 6 rfl rfl)
theorem dX6_of_102 : decode cX6_of 102 = .ok (.goto 18, 3) := dk_167 0 18 (dk_at dksX6_of_4 7 rfl rfl)
theorem dX6_of_105 : decode cX6_of 105 = .ok (.lload 5, 2) := dk_22 5 (dk_at dksX6_of_4 10 rfl rfl)
theorem dX6_of_107 : decode cX6_of 107 = .ok (.lconst 0, 1) := dk_9 (dk_at dksX6_of_4 12 rfl rfl)
theorem dX6_of_108 : decode cX6_of 108 = .ok (.lcmp, 1) := dk_148 (dk_at dksX6_of_4 13 rfl rfl)
theorem dX6_of_109 : decode cX6_of 109 = .ok (.ifCond .ne 7, 3) := dk_154 0 7 (dk_at dksX6_of_4 14 rfl rfl)
theorem dX6_of_112 : decode cX6_of 112 = .ok (.lconst 0, 1) := dk_9 (dk_at dksX6_of_4 17 rfl rfl)
theorem dX6_of_113 : decode cX6_of 113 = .ok (.goto 7, 3) := dk_167 0 7 (dk_at dksX6_of_4 18 rfl rfl)
theorem dX6_of_116 : decode cX6_of 116 = .ok (.lload_n 2, 1) := dk_32 (dk_at dksX6_of_4 21 rfl rfl)
theorem dX6_of_117 : decode cX6_of 117 = .ok (.lload 5, 2) := dk_22 5 (dk_at dksX6_of_4 22 rfl rfl)
theorem dX6_of_119 : decode cX6_of 119 = .ok (.ldiv, 1) := dk_109 (dk_at dksX6_of_5 0 rfl rfl)
theorem dX6_of_120 : decode cX6_of 120 = .ok (.lstore 8, 2) := dk_55 8 (dk_at dksX6_of_5 1 rfl rfl)
theorem dX6_of_122 : decode cX6_of 122 = .ok (.ldc2_w 56, 3) := dk_20 0 56 (dk_at dksX6_of_5 3 rfl rfl)
theorem dX6_of_125 : decode cX6_of 125 = .ok (.ldc2_w 58, 3) := dk_20 0 58 (dk_at dksX6_of_5 6 rfl rfl)
theorem dX6_of_128 : decode cX6_of 128 = .ok (.lload 8, 2) := dk_22 8 (dk_at dksX6_of_5 9 rfl rfl)
theorem dX6_of_130 : decode cX6_of 130 = .ok (.invokestatic 60, 3) := dk_184 0 60 (dk_at dksX6_of_5 11 rfl rfl)
theorem dX6_of_133 : decode cX6_of 133 = .ok (.invokestatic 66, 3) := dk_184 0 66 (dk_at dksX6_of_5 14 rfl rfl)
theorem dX6_of_136 : decode cX6_of 136 = .ok (.lstore_n 2, 1) := dk_65 (dk_at dksX6_of_5 17 rfl rfl)
theorem dX6_of_137 : decode cX6_of 137 = .ok (.iinc 4 1, 3) := dk_132 4 1 (dk_at dksX6_of_5 18 rfl rfl)
theorem dX6_of_140 : decode cX6_of 140 = .ok (.goto (-126), 3) := dk_167 255 130 (dk_at dksX6_of_5 21 rfl rfl)
theorem dX6_of_143 : decode cX6_of 143 = .ok (.lload_n 2, 1) := dk_32 (dk_at dksX6_of_6 0 rfl rfl)
theorem dX6_of_144 : decode cX6_of 144 = .ok (.lreturn, 1) := dk_173 (dk_at dksX6_of_6 1 rfl rfl)
theorem q139 : (Jvm.Cond.initialized "RailingsCount$Chain") ∈ lw_all := lw_g (lw_at lw_m1 19 rfl) rfl
theorem q531 : (Jvm.Cond.instantiable "RailingsCount$Chain" (3 : Nat)) ∈ lw_all := lw_g (lw_at lw_m2 171 rfl) rfl
theorem q639 : (Jvm.Cond.selects "RailingsCount$Chain" ({ cls := "java/lang/Object", name := "getClass", desc := "()Ljava/lang/Class;" } : Jvm.MethodName) ({ cls := "java/lang/Object", name := "getClass", desc := "()Ljava/lang/Class;" } : Jvm.MethodName)) ∈ lw_all := lw_g (lw_at lw_m3 39 rfl) rfl
theorem q775 : (Jvm.Cond.instanceMethod ({ cls := "RailingsCount$Chain", name := "<init>", desc := "(LRailingsCount$Sum;)V" } : Jvm.MethodName)) ∈ lw_all := lw_g (lw_at lw_m3 175 rfl) rfl
theorem q776 : (Jvm.Cond.code ({ cls := "RailingsCount$Chain", name := "<init>", desc := "(LRailingsCount$Sum;)V" } : Jvm.MethodName) prog_4_method_1_code (2 : Nat) (Option.none : Option Jvm.ClassFile.FieldType)) ∈ lw_all := lw_g (lw_at lw_m3 176 rfl) rfl
theorem q777 : (Jvm.Cond.methodLink "RailingsCount$Chain" (3 : Nat) ({ cls := "java/lang/Object", name := "<init>", desc := "()V" } : Jvm.MethodName)) ∈ lw_all := lw_g (lw_at lw_m3 177 rfl) rfl
theorem q778 : (Jvm.Cond.classLink "RailingsCount$Chain" (9 : Nat) "java/util/ArrayList") ∈ lw_all := lw_g (lw_at lw_m3 178 rfl) rfl
theorem q779 : (Jvm.Cond.methodLink "RailingsCount$Chain" (11 : Nat) ({ cls := "java/util/ArrayList", name := "<init>", desc := "()V" } : Jvm.MethodName)) ∈ lw_all := lw_g (lw_at lw_m3 179 rfl) rfl
theorem q780 : (Jvm.Cond.fieldLink "RailingsCount$Chain" (21 : Nat) "RailingsCount$Chain" "first" "LRailingsCount$Sum;") ∈ lw_all := lw_g (lw_at lw_m3 180 rfl) rfl
theorem q781 : (Jvm.Cond.fieldLink "RailingsCount$Chain" (12 : Nat) "RailingsCount$Chain" "more" "Ljava/util/ArrayList;") ∈ lw_all := lw_g (lw_at lw_m3 181 rfl) rfl
theorem q782 : (Jvm.Cond.fieldLink "RailingsCount$Chain" (18 : Nat) "RailingsCount$Chain" "signs" "Ljava/util/ArrayList;") ∈ lw_all := lw_g (lw_at lw_m3 182 rfl) rfl
theorem q783 : (Jvm.Cond.laysFinal "RailingsCount$Chain" "RailingsCount$Chain" "first" "LRailingsCount$Sum;") ∈ lw_all := lw_g (lw_at lw_m3 183 rfl) rfl
theorem q784 : (Jvm.Cond.soleField "RailingsCount$Chain" "first") ∈ lw_all := lw_g (lw_at lw_m3 184 rfl) rfl
theorem q785 : (Jvm.Cond.laysFinal "RailingsCount$Chain" "RailingsCount$Chain" "more" "Ljava/util/ArrayList;") ∈ lw_all := lw_g (lw_at lw_m3 185 rfl) rfl
theorem q786 : (Jvm.Cond.soleField "RailingsCount$Chain" "more") ∈ lw_all := lw_g (lw_at lw_m3 186 rfl) rfl
theorem q787 : (Jvm.Cond.laysFinal "RailingsCount$Chain" "RailingsCount$Chain" "signs" "Ljava/util/ArrayList;") ∈ lw_all := lw_g (lw_at lw_m3 187 rfl) rfl
theorem q788 : (Jvm.Cond.soleField "RailingsCount$Chain" "signs") ∈ lw_all := lw_g (lw_at lw_m3 188 rfl) rfl
theorem q789 : (Jvm.Cond.superclass "RailingsCount$Chain" "java/lang/Object") ∈ lw_all := lw_g (lw_at lw_m3 189 rfl) rfl
theorem q791 : (Jvm.Cond.instanceMethod ({ cls := "RailingsCount$Chain", name := "add", desc := "(ILRailingsCount$Sum;)V" } : Jvm.MethodName)) ∈ lw_all := lw_g (lw_at lw_m3 191 rfl) rfl
theorem q792 : (Jvm.Cond.selects "RailingsCount$Chain" ({ cls := "RailingsCount$Chain", name := "add", desc := "(ILRailingsCount$Sum;)V" } : Jvm.MethodName) ({ cls := "RailingsCount$Chain", name := "add", desc := "(ILRailingsCount$Sum;)V" } : Jvm.MethodName)) ∈ lw_all := lw_g (lw_at lw_m3 192 rfl) rfl
theorem q793 : (Jvm.Cond.code ({ cls := "RailingsCount$Chain", name := "add", desc := "(ILRailingsCount$Sum;)V" } : Jvm.MethodName) prog_4_method_2_code (3 : Nat) (Option.none : Option Jvm.ClassFile.FieldType)) ∈ lw_all := lw_g (lw_at lw_m3 193 rfl) rfl
theorem q794 : (Jvm.Cond.methodLink "RailingsCount$Chain" (25 : Nat) ({ cls := "java/lang/Integer", name := "valueOf", desc := "(I)Ljava/lang/Integer;" } : Jvm.MethodName)) ∈ lw_all := lw_g (lw_at lw_m3 194 rfl) rfl
theorem q814 : (Jvm.Cond.methodLink "RailingsCount$Chain" (31 : Nat) ({ cls := "java/util/ArrayList", name := "add", desc := "(Ljava/lang/Object;)Z" } : Jvm.MethodName)) ∈ lw_all := lw_g (lw_at lw_m3 214 rfl) rfl
theorem q816 : (Jvm.Cond.instanceMethod ({ cls := "RailingsCount$Chain", name := "itself", desc := "()LRailingsCount$Sum;" } : Jvm.MethodName)) ∈ lw_all := lw_g (lw_at lw_m3 216 rfl) rfl
theorem q817 : (Jvm.Cond.selects "RailingsCount$Chain" ({ cls := "RailingsCount$Chain", name := "itself", desc := "()LRailingsCount$Sum;" } : Jvm.MethodName) ({ cls := "RailingsCount$Chain", name := "itself", desc := "()LRailingsCount$Sum;" } : Jvm.MethodName)) ∈ lw_all := lw_g (lw_at lw_m3 217 rfl) rfl
theorem q818 : (Jvm.Cond.code ({ cls := "RailingsCount$Chain", name := "itself", desc := "()LRailingsCount$Sum;" } : Jvm.MethodName) prog_4_method_3_code (1 : Nat) (Option.some (Jvm.ClassFile.FieldType.object "RailingsCount$Sum"))) ∈ lw_all := lw_g (lw_at lw_m3 218 rfl) rfl
theorem q819 : (Jvm.Cond.methodLink "RailingsCount$Chain" (35 : Nat) ({ cls := "java/util/ArrayList", name := "isEmpty", desc := "()Z" } : Jvm.MethodName)) ∈ lw_all := lw_g (lw_at lw_m3 219 rfl) rfl
theorem q908 : (Jvm.Cond.castable "RailingsCount$Chain" "RailingsCount$Sum") ∈ lw_tbl := lw_at lw_m4 68 rfl
theorem q909 : (Jvm.Cond.selects "RailingsCount$Chain" ({ cls := "RailingsCount$Sum", name := "of", desc := "([I)J" } : Jvm.MethodName) ({ cls := "RailingsCount$Chain", name := "of", desc := "([I)J" } : Jvm.MethodName)) ∈ lw_all := lw_g (lw_at lw_m4 69 rfl) rfl
theorem q910 : (Jvm.Cond.unhidden "RailingsCount$Chain" "of" "([I)J") ∈ lw_tbl := lw_at lw_m4 70 rfl
theorem q911 : (Jvm.Cond.instanceMethod ({ cls := "RailingsCount$Chain", name := "of", desc := "([I)J" } : Jvm.MethodName)) ∈ lw_all := lw_g (lw_at lw_m4 71 rfl) rfl
theorem q912 : (Jvm.Cond.publicMethod ({ cls := "RailingsCount$Chain", name := "of", desc := "([I)J" } : Jvm.MethodName)) ∈ lw_tbl := lw_at lw_m4 72 rfl
theorem q913 : (Jvm.Cond.code ({ cls := "RailingsCount$Chain", name := "of", desc := "([I)J" } : Jvm.MethodName) prog_4_method_4_code (10 : Nat) (Option.some Jvm.ClassFile.FieldType.long)) ∈ lw_all := lw_g (lw_at lw_m4 73 rfl) rfl
theorem q914 : (Jvm.Cond.interfaceEntry "RailingsCount$Chain" (39 : Nat)) ∈ lw_tbl := lw_at lw_m4 74 rfl
theorem q915 : (Jvm.Cond.methodLink "RailingsCount$Chain" (39 : Nat) ({ cls := "RailingsCount$Sum", name := "of", desc := "([I)J" } : Jvm.MethodName)) ∈ lw_all := lw_g (lw_at lw_m4 75 rfl) rfl
theorem q992 : (Jvm.Cond.methodLink "RailingsCount$Chain" (45 : Nat) ({ cls := "java/util/ArrayList", name := "size", desc := "()I" } : Jvm.MethodName)) ∈ lw_all := lw_g (lw_at lw_m4 152 rfl) rfl
theorem q993 : (Jvm.Cond.methodLink "RailingsCount$Chain" (49 : Nat) ({ cls := "java/util/ArrayList", name := "get", desc := "(I)Ljava/lang/Object;" } : Jvm.MethodName)) ∈ lw_all := lw_g (lw_at lw_m4 153 rfl) rfl
theorem q994 : (Jvm.Cond.classLink "RailingsCount$Chain" (40 : Nat) "RailingsCount$Sum") ∈ lw_all := lw_g (lw_at lw_m4 154 rfl) rfl
theorem q995 : (Jvm.Cond.classLink "RailingsCount$Chain" (26 : Nat) "java/lang/Integer") ∈ lw_all := lw_g (lw_at lw_m4 155 rfl) rfl
theorem q996 : (Jvm.Cond.methodLink "RailingsCount$Chain" (53 : Nat) ({ cls := "java/lang/Integer", name := "intValue", desc := "()I" } : Jvm.MethodName)) ∈ lw_all := lw_g (lw_at lw_m4 156 rfl) rfl
theorem q1000 : (Jvm.Cond.constantLong "RailingsCount$Chain" (56 : Nat) (-1000000 : Int64)) ∈ lw_all := lw_g (lw_at lw_m4 160 rfl) rfl
theorem q1001 : (Jvm.Cond.constantLong "RailingsCount$Chain" (58 : Nat) (1000000 : Int64)) ∈ lw_all := lw_g (lw_at lw_m4 161 rfl) rfl
theorem q1002 : (Jvm.Cond.methodLink "RailingsCount$Chain" (60 : Nat) ({ cls := "java/lang/Math", name := "min", desc := "(JJ)J" } : Jvm.MethodName)) ∈ lw_all := lw_g (lw_at lw_m4 162 rfl) rfl
theorem q1005 : (Jvm.Cond.methodLink "RailingsCount$Chain" (66 : Nat) ({ cls := "java/lang/Math", name := "max", desc := "(JJ)J" } : Jvm.MethodName)) ∈ lw_all := lw_g (lw_at lw_m4 165 rfl) rfl
theorem q2024 : (Jvm.Cond.castable "RailingsCount$Chain" "java/lang/Object") ∈ lw_tbl := lw_at lw_m8 224 rfl
theorem in_X6 : ∀ w ∈ wsX60, w ∈ lw_all := lw_in wsX60 [783, 785, 787] (by decide +kernel) (by decide +kernel)
/-! RailingsCount$Plain -/
set_option maxRecDepth 100000
def RX7 : String := "RailingsCount$Plain"
def TX7 : u_T := fun k => match k with
  | _ => ("RailingsCount$Plain", "n", "I", true)
def tyX7 : Nat → FieldType := fun k => match k with
  | _ => .int
abbrev wsX70 : List Cond := u_ws RX7 TX7 1
theorem nmX7 : ∀ a, a < 1 → ∀ b, b < 1 → a ≠ b → (TX7 a).2.1 ≠ (TX7 b).2.1 := by decide +kernel
theorem tyX7_ok : ∀ k, k < 1 → parseFieldDescriptor (TX7 k).2.2.1 = some (tyX7 k) := by decide +kernel
abbrev cX7_init : ByteArray := prog_12_method_1_code
def yX7_init : MethodName := ⟨RX7, "<init>", "(I)V"⟩
def dkwX7_init_0 : List UInt8 := [42, 183, 0, 1, 42, 27, 181, 0, 7, 177]
abbrev dktX7_init_0 : List UInt8 := dkwX7_init_0 ++ []
theorem dksX7_init_0 : cX7_init.data.toList.drop 0 = dktX7_init_0 := by decide +kernel
theorem dX7_init_0 : decode cX7_init 0 = .ok (.aload_n 0, 1) := dk_42 (dk_at dksX7_init_0 0 rfl rfl)
theorem dX7_init_1 : decode cX7_init 1 = .ok (.invokespecial 1, 3) := dk_183 0 1 (dk_at dksX7_init_0 1 rfl rfl)
theorem dX7_init_4 : decode cX7_init 4 = .ok (.aload_n 0, 1) := dk_42 (dk_at dksX7_init_0 4 rfl rfl)
theorem dX7_init_5 : decode cX7_init 5 = .ok (.iload_n 1, 1) := dk_27 (dk_at dksX7_init_0 5 rfl rfl)
theorem dX7_init_6 : decode cX7_init 6 = .ok (.putfield 7, 3) := dk_181 0 7 (dk_at dksX7_init_0 6 rfl rfl)
theorem dX7_init_9 : decode cX7_init 9 = .ok (.return_, 1) := dk_177 (dk_at dksX7_init_0 9 rfl rfl)
abbrev cX7_of : ByteArray := prog_12_method_2_code
def yX7_of : MethodName := ⟨RX7, "of", "([I)J"⟩
def dkwX7_of_0 : List UInt8 := [42, 180, 0, 7, 133, 173]
abbrev dktX7_of_0 : List UInt8 := dkwX7_of_0 ++ []
theorem dksX7_of_0 : cX7_of.data.toList.drop 0 = dktX7_of_0 := by decide +kernel
theorem dX7_of_0 : decode cX7_of 0 = .ok (.aload_n 0, 1) := dk_42 (dk_at dksX7_of_0 0 rfl rfl)
theorem dX7_of_1 : decode cX7_of 1 = .ok (.getfield 7, 3) := dk_180 0 7 (dk_at dksX7_of_0 1 rfl rfl)
theorem dX7_of_4 : decode cX7_of 4 = .ok (.i2l, 1) := dk_133 (dk_at dksX7_of_0 4 rfl rfl)
theorem dX7_of_5 : decode cX7_of 5 = .ok (.lreturn, 1) := dk_173 (dk_at dksX7_of_0 5 rfl rfl)
theorem q141 : (Jvm.Cond.initialized "RailingsCount$Plain") ∈ lw_all := lw_g (lw_at lw_m1 21 rfl) rfl
theorem q541 : (Jvm.Cond.instantiable "RailingsCount$Plain" (1 : Nat)) ∈ lw_all := lw_g (lw_at lw_m2 181 rfl) rfl
theorem q547 : (Jvm.Cond.instanceMethod ({ cls := "RailingsCount$Plain", name := "<init>", desc := "(I)V" } : Jvm.MethodName)) ∈ lw_all := lw_g (lw_at lw_m2 187 rfl) rfl
theorem q548 : (Jvm.Cond.code ({ cls := "RailingsCount$Plain", name := "<init>", desc := "(I)V" } : Jvm.MethodName) prog_12_method_1_code (2 : Nat) (Option.none : Option Jvm.ClassFile.FieldType)) ∈ lw_all := lw_g (lw_at lw_m2 188 rfl) rfl
theorem q549 : (Jvm.Cond.methodLink "RailingsCount$Plain" (1 : Nat) ({ cls := "java/lang/Record", name := "<init>", desc := "()V" } : Jvm.MethodName)) ∈ lw_all := lw_g (lw_at lw_m2 189 rfl) rfl
theorem q553 : (Jvm.Cond.fieldLink "RailingsCount$Plain" (7 : Nat) "RailingsCount$Plain" "n" "I") ∈ lw_all := lw_g (lw_at lw_m2 193 rfl) rfl
theorem q554 : (Jvm.Cond.laysFinal "RailingsCount$Plain" "RailingsCount$Plain" "n" "I") ∈ lw_all := lw_g (lw_at lw_m2 194 rfl) rfl
theorem q555 : (Jvm.Cond.soleField "RailingsCount$Plain" "n") ∈ lw_all := lw_g (lw_at lw_m2 195 rfl) rfl
theorem q556 : (Jvm.Cond.superclass "RailingsCount$Plain" "java/lang/Record") ∈ lw_all := lw_g (lw_at lw_m2 196 rfl) rfl
theorem q647 : (Jvm.Cond.selects "RailingsCount$Plain" ({ cls := "java/lang/Object", name := "getClass", desc := "()Ljava/lang/Class;" } : Jvm.MethodName) ({ cls := "java/lang/Object", name := "getClass", desc := "()Ljava/lang/Class;" } : Jvm.MethodName)) ∈ lw_all := lw_g (lw_at lw_m3 47 rfl) rfl
theorem q967 : (Jvm.Cond.castable "RailingsCount$Plain" "RailingsCount$Sum") ∈ lw_tbl := lw_at lw_m4 127 rfl
theorem q968 : (Jvm.Cond.selects "RailingsCount$Plain" ({ cls := "RailingsCount$Sum", name := "of", desc := "([I)J" } : Jvm.MethodName) ({ cls := "RailingsCount$Plain", name := "of", desc := "([I)J" } : Jvm.MethodName)) ∈ lw_all := lw_g (lw_at lw_m4 128 rfl) rfl
theorem q969 : (Jvm.Cond.unhidden "RailingsCount$Plain" "of" "([I)J") ∈ lw_tbl := lw_at lw_m4 129 rfl
theorem q970 : (Jvm.Cond.instanceMethod ({ cls := "RailingsCount$Plain", name := "of", desc := "([I)J" } : Jvm.MethodName)) ∈ lw_all := lw_g (lw_at lw_m4 130 rfl) rfl
theorem q971 : (Jvm.Cond.publicMethod ({ cls := "RailingsCount$Plain", name := "of", desc := "([I)J" } : Jvm.MethodName)) ∈ lw_tbl := lw_at lw_m4 131 rfl
theorem q972 : (Jvm.Cond.code ({ cls := "RailingsCount$Plain", name := "of", desc := "([I)J" } : Jvm.MethodName) prog_12_method_2_code (2 : Nat) (Option.some Jvm.ClassFile.FieldType.long)) ∈ lw_all := lw_g (lw_at lw_m4 132 rfl) rfl
theorem q2025 : (Jvm.Cond.castable "RailingsCount$Plain" "java/lang/Object") ∈ lw_tbl := lw_at lw_m8 225 rfl
theorem in_X7 : ∀ w ∈ wsX70, w ∈ lw_all := lw_in wsX70 [554] (by decide +kernel) (by decide +kernel)
/-! RailingsCount$Not -/
set_option maxRecDepth 100000
def RX8 : String := "RailingsCount$Not"
def TX8 : u_T := fun k => match k with
  | _ => ("RailingsCount$Not", "x", "LRailingsCount$Asked;", true)
def tyX8 : Nat → FieldType := fun k => match k with
  | _ => .object "RailingsCount$Asked"
abbrev wsX80 : List Cond := u_ws RX8 TX8 1
theorem nmX8 : ∀ a, a < 1 → ∀ b, b < 1 → a ≠ b → (TX8 a).2.1 ≠ (TX8 b).2.1 := by decide +kernel
theorem tyX8_ok : ∀ k, k < 1 → parseFieldDescriptor (TX8 k).2.2.1 = some (tyX8 k) := by decide +kernel
abbrev cX8_init : ByteArray := prog_11_method_1_code
def yX8_init : MethodName := ⟨RX8, "<init>", "(LRailingsCount$Asked;)V"⟩
def dkwX8_init_0 : List UInt8 := [42, 183, 0, 1, 42, 43, 181, 0, 7, 177]
abbrev dktX8_init_0 : List UInt8 := dkwX8_init_0 ++ []
theorem dksX8_init_0 : cX8_init.data.toList.drop 0 = dktX8_init_0 := by decide +kernel
theorem dX8_init_0 : decode cX8_init 0 = .ok (.aload_n 0, 1) := dk_42 (dk_at dksX8_init_0 0 rfl rfl)
theorem dX8_init_1 : decode cX8_init 1 = .ok (.invokespecial 1, 3) := dk_183 0 1 (dk_at dksX8_init_0 1 rfl rfl)
theorem dX8_init_4 : decode cX8_init 4 = .ok (.aload_n 0, 1) := dk_42 (dk_at dksX8_init_0 4 rfl rfl)
theorem dX8_init_5 : decode cX8_init 5 = .ok (.aload_n 1, 1) := dk_43 (dk_at dksX8_init_0 5 rfl rfl)
theorem dX8_init_6 : decode cX8_init 6 = .ok (.putfield 7, 3) := dk_181 0 7 (dk_at dksX8_init_0 6 rfl rfl)
theorem dX8_init_9 : decode cX8_init 9 = .ok (.return_, 1) := dk_177 (dk_at dksX8_init_0 9 rfl rfl)
abbrev cX8_is : ByteArray := prog_11_method_2_code
def yX8_is : MethodName := ⟨RX8, "is", "([I)Z"⟩
def dkwX8_is_0 : List UInt8 := [42, 180, 0, 7, 43, 185, 0, 13, 2, 0, 154, 0, 7, 4, 167, 0, 4, 3, 172]
abbrev dktX8_is_0 : List UInt8 := dkwX8_is_0 ++ []
theorem dksX8_is_0 : cX8_is.data.toList.drop 0 = dktX8_is_0 := by decide +kernel
theorem dX8_is_0 : decode cX8_is 0 = .ok (.aload_n 0, 1) := dk_42 (dk_at dksX8_is_0 0 rfl rfl)
theorem dX8_is_1 : decode cX8_is 1 = .ok (.getfield 7, 3) := dk_180 0 7 (dk_at dksX8_is_0 1 rfl rfl)
theorem dX8_is_4 : decode cX8_is 4 = .ok (.aload_n 1, 1) := dk_43 (dk_at dksX8_is_0 4 rfl rfl)
theorem dX8_is_5 : decode cX8_is 5 = .ok (.invokeinterface 13 2, 5) := by decide +kernel
theorem dX8_is_10 : decode cX8_is 10 = .ok (.ifCond .ne 7, 3) := dk_154 0 7 (dk_at dksX8_is_0 10 rfl rfl)
theorem dX8_is_13 : decode cX8_is 13 = .ok (.iconst 1, 1) := dk_4 (dk_at dksX8_is_0 13 rfl rfl)
theorem dX8_is_14 : decode cX8_is 14 = .ok (.goto 4, 3) := dk_167 0 4 (dk_at dksX8_is_0 14 rfl rfl)
theorem dX8_is_17 : decode cX8_is 17 = .ok (.iconst 0, 1) := dk_3 (dk_at dksX8_is_0 17 rfl rfl)
theorem dX8_is_18 : decode cX8_is 18 = .ok (.ireturn, 1) := dk_172 (dk_at dksX8_is_0 18 rfl rfl)
theorem q142 : (Jvm.Cond.initialized "RailingsCount$Not") ∈ lw_all := lw_g (lw_at lw_m1 22 rfl) rfl
theorem q580 : (Jvm.Cond.instantiable "RailingsCount$Not" (1 : Nat)) ∈ lw_all := lw_g (lw_at lw_m2 220 rfl) rfl
theorem q582 : (Jvm.Cond.instanceMethod ({ cls := "RailingsCount$Not", name := "<init>", desc := "(LRailingsCount$Asked;)V" } : Jvm.MethodName)) ∈ lw_all := lw_g (lw_at lw_m2 222 rfl) rfl
theorem q583 : (Jvm.Cond.code ({ cls := "RailingsCount$Not", name := "<init>", desc := "(LRailingsCount$Asked;)V" } : Jvm.MethodName) prog_11_method_1_code (2 : Nat) (Option.none : Option Jvm.ClassFile.FieldType)) ∈ lw_all := lw_g (lw_at lw_m2 223 rfl) rfl
theorem q584 : (Jvm.Cond.methodLink "RailingsCount$Not" (1 : Nat) ({ cls := "java/lang/Record", name := "<init>", desc := "()V" } : Jvm.MethodName)) ∈ lw_all := lw_g (lw_at lw_m2 224 rfl) rfl
theorem q585 : (Jvm.Cond.fieldLink "RailingsCount$Not" (7 : Nat) "RailingsCount$Not" "x" "LRailingsCount$Asked;") ∈ lw_all := lw_g (lw_at lw_m2 225 rfl) rfl
theorem q586 : (Jvm.Cond.laysFinal "RailingsCount$Not" "RailingsCount$Not" "x" "LRailingsCount$Asked;") ∈ lw_all := lw_g (lw_at lw_m2 226 rfl) rfl
theorem q587 : (Jvm.Cond.soleField "RailingsCount$Not" "x") ∈ lw_all := lw_g (lw_at lw_m2 227 rfl) rfl
theorem q588 : (Jvm.Cond.superclass "RailingsCount$Not" "java/lang/Record") ∈ lw_all := lw_g (lw_at lw_m2 228 rfl) rfl
theorem q646 : (Jvm.Cond.selects "RailingsCount$Not" ({ cls := "java/lang/Object", name := "getClass", desc := "()Ljava/lang/Class;" } : Jvm.MethodName) ({ cls := "java/lang/Object", name := "getClass", desc := "()Ljava/lang/Class;" } : Jvm.MethodName)) ∈ lw_all := lw_g (lw_at lw_m3 46 rfl) rfl
theorem q982 : (Jvm.Cond.castable "RailingsCount$Not" "RailingsCount$Asked") ∈ lw_tbl := lw_at lw_m4 142 rfl
theorem q983 : (Jvm.Cond.selects "RailingsCount$Not" ({ cls := "RailingsCount$Asked", name := "is", desc := "([I)Z" } : Jvm.MethodName) ({ cls := "RailingsCount$Not", name := "is", desc := "([I)Z" } : Jvm.MethodName)) ∈ lw_all := lw_g (lw_at lw_m4 143 rfl) rfl
theorem q984 : (Jvm.Cond.unhidden "RailingsCount$Not" "is" "([I)Z") ∈ lw_tbl := lw_at lw_m4 144 rfl
theorem q985 : (Jvm.Cond.instanceMethod ({ cls := "RailingsCount$Not", name := "is", desc := "([I)Z" } : Jvm.MethodName)) ∈ lw_all := lw_g (lw_at lw_m4 145 rfl) rfl
theorem q986 : (Jvm.Cond.publicMethod ({ cls := "RailingsCount$Not", name := "is", desc := "([I)Z" } : Jvm.MethodName)) ∈ lw_tbl := lw_at lw_m4 146 rfl
theorem q987 : (Jvm.Cond.code ({ cls := "RailingsCount$Not", name := "is", desc := "([I)Z" } : Jvm.MethodName) prog_11_method_2_code (2 : Nat) (Option.some Jvm.ClassFile.FieldType.boolean)) ∈ lw_all := lw_g (lw_at lw_m4 147 rfl) rfl
theorem q988 : (Jvm.Cond.interfaceEntry "RailingsCount$Not" (13 : Nat)) ∈ lw_tbl := lw_at lw_m4 148 rfl
theorem q989 : (Jvm.Cond.methodLink "RailingsCount$Not" (13 : Nat) ({ cls := "RailingsCount$Asked", name := "is", desc := "([I)Z" } : Jvm.MethodName)) ∈ lw_all := lw_g (lw_at lw_m4 149 rfl) rfl
theorem q2026 : (Jvm.Cond.castable "RailingsCount$Not" "java/lang/Object") ∈ lw_tbl := lw_at lw_m8 226 rfl
theorem in_X8 : ∀ w ∈ wsX80, w ∈ lw_all := lw_in wsX80 [586] (by decide +kernel) (by decide +kernel)
/-! RailingsCount$Compared -/
set_option maxRecDepth 100000
def RX9 : String := "RailingsCount$Compared"
def TX9 : u_T := fun k => match k with
  | 0 => ("RailingsCount$Compared", "sign", "I", true)
  | 1 => ("RailingsCount$Compared", "a", "LRailingsCount$Sum;", true)
  | _ => ("RailingsCount$Compared", "b", "LRailingsCount$Sum;", true)
def tyX9 : Nat → FieldType := fun k => match k with
  | 0 => .int
  | 1 => .object "RailingsCount$Sum"
  | _ => .object "RailingsCount$Sum"
abbrev wsX90 : List Cond := u_ws RX9 TX9 3
theorem nmX9 : ∀ a, a < 3 → ∀ b, b < 3 → a ≠ b → (TX9 a).2.1 ≠ (TX9 b).2.1 := by decide +kernel
theorem tyX9_ok : ∀ k, k < 3 → parseFieldDescriptor (TX9 k).2.2.1 = some (tyX9 k) := by decide +kernel
abbrev cX9_init : ByteArray := prog_5_method_1_code
def yX9_init : MethodName := ⟨RX9, "<init>", "(ILRailingsCount$Sum;LRailingsCount$Sum;)V"⟩
def dkwX9_init_0 : List UInt8 := [42, 183, 0, 1, 42, 27, 181, 0, 7, 42, 44, 181, 0, 13, 42, 45, 181, 0, 17, 177]
abbrev dktX9_init_0 : List UInt8 := dkwX9_init_0 ++ []
theorem dksX9_init_0 : cX9_init.data.toList.drop 0 = dktX9_init_0 := by decide +kernel
theorem dX9_init_0 : decode cX9_init 0 = .ok (.aload_n 0, 1) := dk_42 (dk_at dksX9_init_0 0 rfl rfl)
theorem dX9_init_1 : decode cX9_init 1 = .ok (.invokespecial 1, 3) := dk_183 0 1 (dk_at dksX9_init_0 1 rfl rfl)
theorem dX9_init_4 : decode cX9_init 4 = .ok (.aload_n 0, 1) := dk_42 (dk_at dksX9_init_0 4 rfl rfl)
theorem dX9_init_5 : decode cX9_init 5 = .ok (.iload_n 1, 1) := dk_27 (dk_at dksX9_init_0 5 rfl rfl)
theorem dX9_init_6 : decode cX9_init 6 = .ok (.putfield 7, 3) := dk_181 0 7 (dk_at dksX9_init_0 6 rfl rfl)
theorem dX9_init_9 : decode cX9_init 9 = .ok (.aload_n 0, 1) := dk_42 (dk_at dksX9_init_0 9 rfl rfl)
theorem dX9_init_10 : decode cX9_init 10 = .ok (.aload_n 2, 1) := dk_44 (dk_at dksX9_init_0 10 rfl rfl)
theorem dX9_init_11 : decode cX9_init 11 = .ok (.putfield 13, 3) := dk_181 0 13 (dk_at dksX9_init_0 11 rfl rfl)
theorem dX9_init_14 : decode cX9_init 14 = .ok (.aload_n 0, 1) := dk_42 (dk_at dksX9_init_0 14 rfl rfl)
theorem dX9_init_15 : decode cX9_init 15 = .ok (.aload_n 3, 1) := dk_45 (dk_at dksX9_init_0 15 rfl rfl)
theorem dX9_init_16 : decode cX9_init 16 = .ok (.putfield 17, 3) := dk_181 0 17 (dk_at dksX9_init_0 16 rfl rfl)
theorem dX9_init_19 : decode cX9_init 19 = .ok (.return_, 1) := dk_177 (dk_at dksX9_init_0 19 rfl rfl)
abbrev cX9_is : ByteArray := prog_5_method_2_code
def yX9_is : MethodName := ⟨RX9, "is", "([I)Z"⟩
def dkwX9_is_5 : List UInt8 := [32, 9, 148, 157, 0, 7, 4, 167, 0, 4, 3, 172, 32, 9, 148, 155, 0, 7, 4, 167, 0, 4, 3, 172]
abbrev dktX9_is_5 : List UInt8 := dkwX9_is_5 ++ []
def dkwX9_is_4 : List UInt8 := [32, 9, 148, 154, 0, 7, 4, 167, 0, 4, 3, 172, 32, 9, 148, 153, 0, 7, 4, 167, 0, 4, 3, 172]
abbrev dktX9_is_4 : List UInt8 := dkwX9_is_4 ++ dktX9_is_5
def dkwX9_is_3 : List UInt8 := [32, 9, 148, 156, 0, 7, 4, 167, 0, 4, 3, 172, 32, 9, 148, 158, 0, 7, 4, 167, 0, 4, 3, 172]
abbrev dktX9_is_3 : List UInt8 := dkwX9_is_3 ++ dktX9_is_4
def dkwX9_is_2 : List UInt8 := [171, 0, 0, 0, 0, 110, 0, 0, 0, 5, 0, 0, 0, 35, 0, 0, 0, 86, 0, 0, 0, 60, 0, 0, 0, 50, 0, 0, 0, 61, 0, 0, 0, 74, 0, 0, 0, 62, 0, 0, 0, 62, 0, 0, 1, 47, 0, 0, 0, 98]
abbrev dktX9_is_2 : List UInt8 := dkwX9_is_2 ++ dktX9_is_3
def dkwX9_is_1 : List UInt8 := [180, 0, 7]
abbrev dktX9_is_1 : List UInt8 := dkwX9_is_1 ++ dktX9_is_2
def dkwX9_is_0 : List UInt8 := [42, 180, 0, 13, 43, 185, 0, 20, 2, 0, 42, 180, 0, 17, 43, 185, 0, 20, 2, 0, 101, 65, 42]
abbrev dktX9_is_0 : List UInt8 := dkwX9_is_0 ++ dktX9_is_1
theorem dksX9_is_0 : cX9_is.data.toList.drop 0 = dktX9_is_0 := by decide +kernel
theorem dksX9_is_1 : cX9_is.data.toList.drop 23 = dktX9_is_1 := dk_seg dksX9_is_0 23 rfl rfl
theorem dksX9_is_2 : cX9_is.data.toList.drop 26 = dktX9_is_2 := dk_seg dksX9_is_1 3 rfl rfl
theorem dksX9_is_3 : cX9_is.data.toList.drop 76 = dktX9_is_3 := dk_seg dksX9_is_2 50 rfl rfl
theorem dksX9_is_4 : cX9_is.data.toList.drop 100 = dktX9_is_4 := dk_seg dksX9_is_3 24 rfl rfl
theorem dksX9_is_5 : cX9_is.data.toList.drop 124 = dktX9_is_5 := dk_seg dksX9_is_4 24 rfl rfl
theorem dX9_is_0 : decode cX9_is 0 = .ok (.aload_n 0, 1) := dk_42 (dk_at dksX9_is_0 0 rfl rfl)
theorem dX9_is_1 : decode cX9_is 1 = .ok (.getfield 13, 3) := dk_180 0 13 (dk_at dksX9_is_0 1 rfl rfl)
theorem dX9_is_4 : decode cX9_is 4 = .ok (.aload_n 1, 1) := dk_43 (dk_at dksX9_is_0 4 rfl rfl)
theorem dX9_is_5 : decode cX9_is 5 = .ok (.invokeinterface 20 2, 5) := by decide +kernel
theorem dX9_is_10 : decode cX9_is 10 = .ok (.aload_n 0, 1) := dk_42 (dk_at dksX9_is_0 10 rfl rfl)
theorem dX9_is_11 : decode cX9_is 11 = .ok (.getfield 17, 3) := dk_180 0 17 (dk_at dksX9_is_0 11 rfl rfl)
theorem dX9_is_14 : decode cX9_is 14 = .ok (.aload_n 1, 1) := dk_43 (dk_at dksX9_is_0 14 rfl rfl)
theorem dX9_is_15 : decode cX9_is 15 = .ok (.invokeinterface 20 2, 5) := by decide +kernel
theorem dX9_is_20 : decode cX9_is 20 = .ok (.lsub, 1) := dk_101 (dk_at dksX9_is_0 20 rfl rfl)
theorem dX9_is_21 : decode cX9_is 21 = .ok (.lstore_n 2, 1) := dk_65 (dk_at dksX9_is_0 21 rfl rfl)
theorem dX9_is_22 : decode cX9_is 22 = .ok (.aload_n 0, 1) := dk_42 (dk_at dksX9_is_0 22 rfl rfl)
theorem dX9_is_23 : decode cX9_is 23 = .ok (.getfield 7, 3) := dk_180 0 7 (dk_at dksX9_is_1 0 rfl rfl)
theorem dX9_is_26 : decode cX9_is 26 = .ok (.lookupswitch 110 #[(35, 86), (60, 50), (61, 74), (62, 62), (303, 98)], 50) := by decide +kernel
theorem dX9_is_76 : decode cX9_is 76 = .ok (.lload_n 2, 1) := dk_32 (dk_at dksX9_is_3 0 rfl rfl)
theorem dX9_is_77 : decode cX9_is 77 = .ok (.lconst 0, 1) := dk_9 (dk_at dksX9_is_3 1 rfl rfl)
theorem dX9_is_78 : decode cX9_is 78 = .ok (.lcmp, 1) := dk_148 (dk_at dksX9_is_3 2 rfl rfl)
theorem dX9_is_79 : decode cX9_is 79 = .ok (.ifCond .ge 7, 3) := dk_156 0 7 (dk_at dksX9_is_3 3 rfl rfl)
theorem dX9_is_82 : decode cX9_is 82 = .ok (.iconst 1, 1) := dk_4 (dk_at dksX9_is_3 6 rfl rfl)
theorem dX9_is_83 : decode cX9_is 83 = .ok (.goto 4, 3) := dk_167 0 4 (dk_at dksX9_is_3 7 rfl rfl)
theorem dX9_is_86 : decode cX9_is 86 = .ok (.iconst 0, 1) := dk_3 (dk_at dksX9_is_3 10 rfl rfl)
theorem dX9_is_87 : decode cX9_is 87 = .ok (.ireturn, 1) := dk_172 (dk_at dksX9_is_3 11 rfl rfl)
theorem dX9_is_88 : decode cX9_is 88 = .ok (.lload_n 2, 1) := dk_32 (dk_at dksX9_is_3 12 rfl rfl)
theorem dX9_is_89 : decode cX9_is 89 = .ok (.lconst 0, 1) := dk_9 (dk_at dksX9_is_3 13 rfl rfl)
theorem dX9_is_90 : decode cX9_is 90 = .ok (.lcmp, 1) := dk_148 (dk_at dksX9_is_3 14 rfl rfl)
theorem dX9_is_91 : decode cX9_is 91 = .ok (.ifCond .le 7, 3) := dk_158 0 7 (dk_at dksX9_is_3 15 rfl rfl)
theorem dX9_is_94 : decode cX9_is 94 = .ok (.iconst 1, 1) := dk_4 (dk_at dksX9_is_3 18 rfl rfl)
theorem dX9_is_95 : decode cX9_is 95 = .ok (.goto 4, 3) := dk_167 0 4 (dk_at dksX9_is_3 19 rfl rfl)
theorem dX9_is_98 : decode cX9_is 98 = .ok (.iconst 0, 1) := dk_3 (dk_at dksX9_is_3 22 rfl rfl)
theorem dX9_is_99 : decode cX9_is 99 = .ok (.ireturn, 1) := dk_172 (dk_at dksX9_is_3 23 rfl rfl)
theorem dX9_is_100 : decode cX9_is 100 = .ok (.lload_n 2, 1) := dk_32 (dk_at dksX9_is_4 0 rfl rfl)
theorem dX9_is_101 : decode cX9_is 101 = .ok (.lconst 0, 1) := dk_9 (dk_at dksX9_is_4 1 rfl rfl)
theorem dX9_is_102 : decode cX9_is 102 = .ok (.lcmp, 1) := dk_148 (dk_at dksX9_is_4 2 rfl rfl)
theorem dX9_is_103 : decode cX9_is 103 = .ok (.ifCond .ne 7, 3) := dk_154 0 7 (dk_at dksX9_is_4 3 rfl rfl)
theorem dX9_is_106 : decode cX9_is 106 = .ok (.iconst 1, 1) := dk_4 (dk_at dksX9_is_4 6 rfl rfl)
theorem dX9_is_107 : decode cX9_is 107 = .ok (.goto 4, 3) := dk_167 0 4 (dk_at dksX9_is_4 7 rfl rfl)
theorem dX9_is_110 : decode cX9_is 110 = .ok (.iconst 0, 1) := dk_3 (dk_at dksX9_is_4 10 rfl rfl)
theorem dX9_is_111 : decode cX9_is 111 = .ok (.ireturn, 1) := dk_172 (dk_at dksX9_is_4 11 rfl rfl)
theorem dX9_is_112 : decode cX9_is 112 = .ok (.lload_n 2, 1) := dk_32 (dk_at dksX9_is_4 12 rfl rfl)
theorem dX9_is_113 : decode cX9_is 113 = .ok (.lconst 0, 1) := dk_9 (dk_at dksX9_is_4 13 rfl rfl)
theorem dX9_is_114 : decode cX9_is 114 = .ok (.lcmp, 1) := dk_148 (dk_at dksX9_is_4 14 rfl rfl)
theorem dX9_is_115 : decode cX9_is 115 = .ok (.ifCond .eq 7, 3) := dk_153 0 7 (dk_at dksX9_is_4 15 rfl rfl)
theorem dX9_is_118 : decode cX9_is 118 = .ok (.iconst 1, 1) := dk_4 (dk_at dksX9_is_4 18 rfl rfl)
theorem dX9_is_119 : decode cX9_is 119 = .ok (.goto 4, 3) := dk_167 0 4 (dk_at dksX9_is_4 19 rfl rfl)
theorem dX9_is_122 : decode cX9_is 122 = .ok (.iconst 0, 1) := dk_3 (dk_at dksX9_is_4 22 rfl rfl)
theorem dX9_is_123 : decode cX9_is 123 = .ok (.ireturn, 1) := dk_172 (dk_at dksX9_is_4 23 rfl rfl)
theorem dX9_is_124 : decode cX9_is 124 = .ok (.lload_n 2, 1) := dk_32 (dk_at dksX9_is_5 0 rfl rfl)
theorem dX9_is_125 : decode cX9_is 125 = .ok (.lconst 0, 1) := dk_9 (dk_at dksX9_is_5 1 rfl rfl)
theorem dX9_is_126 : decode cX9_is 126 = .ok (.lcmp, 1) := dk_148 (dk_at dksX9_is_5 2 rfl rfl)
theorem dX9_is_127 : decode cX9_is 127 = .ok (.ifCond .gt 7, 3) := dk_157 0 7 (dk_at dksX9_is_5 3 rfl rfl)
theorem dX9_is_130 : decode cX9_is 130 = .ok (.iconst 1, 1) := dk_4 (dk_at dksX9_is_5 6 rfl rfl)
theorem dX9_is_131 : decode cX9_is 131 = .ok (.goto 4, 3) := dk_167 0 4 (dk_at dksX9_is_5 7 rfl rfl)
theorem dX9_is_134 : decode cX9_is 134 = .ok (.iconst 0, 1) := dk_3 (dk_at dksX9_is_5 10 rfl rfl)
theorem dX9_is_135 : decode cX9_is 135 = .ok (.ireturn, 1) := dk_172 (dk_at dksX9_is_5 11 rfl rfl)
theorem dX9_is_136 : decode cX9_is 136 = .ok (.lload_n 2, 1) := dk_32 (dk_at dksX9_is_5 12 rfl rfl)
theorem dX9_is_137 : decode cX9_is 137 = .ok (.lconst 0, 1) := dk_9 (dk_at dksX9_is_5 13 rfl rfl)
theorem dX9_is_138 : decode cX9_is 138 = .ok (.lcmp, 1) := dk_148 (dk_at dksX9_is_5 14 rfl rfl)
theorem dX9_is_139 : decode cX9_is 139 = .ok (.ifCond .lt 7, 3) := dk_155 0 7 (dk_at dksX9_is_5 15 rfl rfl)
theorem dX9_is_142 : decode cX9_is 142 = .ok (.iconst 1, 1) := dk_4 (dk_at dksX9_is_5 18 rfl rfl)
theorem dX9_is_143 : decode cX9_is 143 = .ok (.goto 4, 3) := dk_167 0 4 (dk_at dksX9_is_5 19 rfl rfl)
theorem dX9_is_146 : decode cX9_is 146 = .ok (.iconst 0, 1) := dk_3 (dk_at dksX9_is_5 22 rfl rfl)
theorem dX9_is_147 : decode cX9_is 147 = .ok (.ireturn, 1) := dk_172 (dk_at dksX9_is_5 23 rfl rfl)
theorem q143 : (Jvm.Cond.initialized "RailingsCount$Compared") ∈ lw_all := lw_g (lw_at lw_m1 23 rfl) rfl
theorem q590 : (Jvm.Cond.instantiable "RailingsCount$Compared" (3 : Nat)) ∈ lw_all := lw_g (lw_at lw_m2 230 rfl) rfl
theorem q592 : (Jvm.Cond.instanceMethod ({ cls := "RailingsCount$Compared", name := "<init>", desc := "(ILRailingsCount$Sum;LRailingsCount$Sum;)V" } : Jvm.MethodName)) ∈ lw_all := lw_g (lw_at lw_m2 232 rfl) rfl
theorem q593 : (Jvm.Cond.code ({ cls := "RailingsCount$Compared", name := "<init>", desc := "(ILRailingsCount$Sum;LRailingsCount$Sum;)V" } : Jvm.MethodName) prog_5_method_1_code (4 : Nat) (Option.none : Option Jvm.ClassFile.FieldType)) ∈ lw_all := lw_g (lw_at lw_m2 233 rfl) rfl
theorem q594 : (Jvm.Cond.methodLink "RailingsCount$Compared" (1 : Nat) ({ cls := "java/lang/Record", name := "<init>", desc := "()V" } : Jvm.MethodName)) ∈ lw_all := lw_g (lw_at lw_m2 234 rfl) rfl
theorem q595 : (Jvm.Cond.fieldLink "RailingsCount$Compared" (7 : Nat) "RailingsCount$Compared" "sign" "I") ∈ lw_all := lw_g (lw_at lw_m2 235 rfl) rfl
theorem q596 : (Jvm.Cond.fieldLink "RailingsCount$Compared" (13 : Nat) "RailingsCount$Compared" "a" "LRailingsCount$Sum;") ∈ lw_all := lw_g (lw_at lw_m2 236 rfl) rfl
theorem q597 : (Jvm.Cond.fieldLink "RailingsCount$Compared" (17 : Nat) "RailingsCount$Compared" "b" "LRailingsCount$Sum;") ∈ lw_all := lw_g (lw_at lw_m2 237 rfl) rfl
theorem q598 : (Jvm.Cond.laysFinal "RailingsCount$Compared" "RailingsCount$Compared" "sign" "I") ∈ lw_all := lw_g (lw_at lw_m2 238 rfl) rfl
theorem q599 : (Jvm.Cond.soleField "RailingsCount$Compared" "sign") ∈ lw_all := lw_g (lw_at lw_m2 239 rfl) rfl
theorem q600 : (Jvm.Cond.laysFinal "RailingsCount$Compared" "RailingsCount$Compared" "a" "LRailingsCount$Sum;") ∈ lw_all := lw_g (lw_at lw_m3 0 rfl) rfl
theorem q601 : (Jvm.Cond.soleField "RailingsCount$Compared" "a") ∈ lw_all := lw_g (lw_at lw_m3 1 rfl) rfl
theorem q602 : (Jvm.Cond.laysFinal "RailingsCount$Compared" "RailingsCount$Compared" "b" "LRailingsCount$Sum;") ∈ lw_all := lw_g (lw_at lw_m3 2 rfl) rfl
theorem q603 : (Jvm.Cond.soleField "RailingsCount$Compared" "b") ∈ lw_all := lw_g (lw_at lw_m3 3 rfl) rfl
theorem q604 : (Jvm.Cond.superclass "RailingsCount$Compared" "java/lang/Record") ∈ lw_all := lw_g (lw_at lw_m3 4 rfl) rfl
theorem q640 : (Jvm.Cond.selects "RailingsCount$Compared" ({ cls := "java/lang/Object", name := "getClass", desc := "()Ljava/lang/Class;" } : Jvm.MethodName) ({ cls := "java/lang/Object", name := "getClass", desc := "()Ljava/lang/Class;" } : Jvm.MethodName)) ∈ lw_all := lw_g (lw_at lw_m3 40 rfl) rfl
theorem q937 : (Jvm.Cond.castable "RailingsCount$Compared" "RailingsCount$Asked") ∈ lw_tbl := lw_at lw_m4 97 rfl
theorem q938 : (Jvm.Cond.selects "RailingsCount$Compared" ({ cls := "RailingsCount$Asked", name := "is", desc := "([I)Z" } : Jvm.MethodName) ({ cls := "RailingsCount$Compared", name := "is", desc := "([I)Z" } : Jvm.MethodName)) ∈ lw_all := lw_g (lw_at lw_m4 98 rfl) rfl
theorem q939 : (Jvm.Cond.unhidden "RailingsCount$Compared" "is" "([I)Z") ∈ lw_tbl := lw_at lw_m4 99 rfl
theorem q940 : (Jvm.Cond.instanceMethod ({ cls := "RailingsCount$Compared", name := "is", desc := "([I)Z" } : Jvm.MethodName)) ∈ lw_all := lw_g (lw_at lw_m4 100 rfl) rfl
theorem q941 : (Jvm.Cond.publicMethod ({ cls := "RailingsCount$Compared", name := "is", desc := "([I)Z" } : Jvm.MethodName)) ∈ lw_tbl := lw_at lw_m4 101 rfl
theorem q942 : (Jvm.Cond.code ({ cls := "RailingsCount$Compared", name := "is", desc := "([I)Z" } : Jvm.MethodName) prog_5_method_2_code (4 : Nat) (Option.some Jvm.ClassFile.FieldType.boolean)) ∈ lw_all := lw_g (lw_at lw_m4 102 rfl) rfl
theorem q943 : (Jvm.Cond.interfaceEntry "RailingsCount$Compared" (20 : Nat)) ∈ lw_tbl := lw_at lw_m4 103 rfl
theorem q944 : (Jvm.Cond.methodLink "RailingsCount$Compared" (20 : Nat) ({ cls := "RailingsCount$Sum", name := "of", desc := "([I)J" } : Jvm.MethodName)) ∈ lw_all := lw_g (lw_at lw_m4 104 rfl) rfl
theorem q2027 : (Jvm.Cond.castable "RailingsCount$Compared" "java/lang/Object") ∈ lw_tbl := lw_at lw_m8 227 rfl
theorem in_X9 : ∀ w ∈ wsX90, w ∈ lw_all := lw_in wsX90 [598, 600, 602] (by decide +kernel) (by decide +kernel)
/-! RailingsCount$All -/
set_option maxRecDepth 100000
def RX10 : String := "RailingsCount$All"
def TX10 : u_T := fun k => match k with
  | 0 => ("RailingsCount$All", "and", "Z", true)
  | _ => ("RailingsCount$All", "of", "Ljava/util/ArrayList;", true)
def tyX10 : Nat → FieldType := fun k => match k with
  | 0 => .boolean
  | _ => .object "java/util/ArrayList"
abbrev wsX100 : List Cond := u_ws RX10 TX10 2
theorem nmX10 : ∀ a, a < 2 → ∀ b, b < 2 → a ≠ b → (TX10 a).2.1 ≠ (TX10 b).2.1 := by decide +kernel
theorem tyX10_ok : ∀ k, k < 2 → parseFieldDescriptor (TX10 k).2.2.1 = some (tyX10 k) := by decide +kernel
abbrev cX10_init : ByteArray := prog_2_method_1_code
def yX10_init : MethodName := ⟨RX10, "<init>", "(ZLjava/util/ArrayList;)V"⟩
def dkwX10_init_0 : List UInt8 := [42, 183, 0, 1, 42, 27, 181, 0, 7, 42, 44, 181, 0, 13, 177]
abbrev dktX10_init_0 : List UInt8 := dkwX10_init_0 ++ []
theorem dksX10_init_0 : cX10_init.data.toList.drop 0 = dktX10_init_0 := by decide +kernel
theorem dX10_init_0 : decode cX10_init 0 = .ok (.aload_n 0, 1) := dk_42 (dk_at dksX10_init_0 0 rfl rfl)
theorem dX10_init_1 : decode cX10_init 1 = .ok (.invokespecial 1, 3) := dk_183 0 1 (dk_at dksX10_init_0 1 rfl rfl)
theorem dX10_init_4 : decode cX10_init 4 = .ok (.aload_n 0, 1) := dk_42 (dk_at dksX10_init_0 4 rfl rfl)
theorem dX10_init_5 : decode cX10_init 5 = .ok (.iload_n 1, 1) := dk_27 (dk_at dksX10_init_0 5 rfl rfl)
theorem dX10_init_6 : decode cX10_init 6 = .ok (.putfield 7, 3) := dk_181 0 7 (dk_at dksX10_init_0 6 rfl rfl)
theorem dX10_init_9 : decode cX10_init 9 = .ok (.aload_n 0, 1) := dk_42 (dk_at dksX10_init_0 9 rfl rfl)
theorem dX10_init_10 : decode cX10_init 10 = .ok (.aload_n 2, 1) := dk_44 (dk_at dksX10_init_0 10 rfl rfl)
theorem dX10_init_11 : decode cX10_init 11 = .ok (.putfield 13, 3) := dk_181 0 13 (dk_at dksX10_init_0 11 rfl rfl)
theorem dX10_init_14 : decode cX10_init 14 = .ok (.return_, 1) := dk_177 (dk_at dksX10_init_0 14 rfl rfl)
abbrev cX10_is : ByteArray := prog_2_method_2_code
def yX10_is : MethodName := ⟨RX10, "is", "([I)Z"⟩
def dkwX10_is_3 : List UInt8 := [167, 0, 16, 3, 167, 0, 12, 28, 158, 0, 7, 4, 167, 0, 4, 3, 172]
abbrev dktX10_is_3 : List UInt8 := dkwX10_is_3 ++ []
def dkwX10_is_2 : List UInt8 := [167, 255, 214, 42, 180, 0, 7, 153, 0, 22, 28, 42, 180, 0, 13, 182, 0, 17, 160, 0, 7, 4]
abbrev dktX10_is_2 : List UInt8 := dkwX10_is_2 ++ dktX10_is_3
def dkwX10_is_1 : List UInt8 := [192, 0, 27, 43, 185, 0, 29, 2, 0, 153, 0, 7, 4, 167, 0, 4, 3, 96, 61, 132, 3, 1]
abbrev dktX10_is_1 : List UInt8 := dkwX10_is_1 ++ dktX10_is_2
def dkwX10_is_0 : List UInt8 := [3, 61, 3, 62, 29, 42, 180, 0, 13, 182, 0, 17, 162, 0, 37, 28, 42, 180, 0, 13, 29, 182, 0, 23]
abbrev dktX10_is_0 : List UInt8 := dkwX10_is_0 ++ dktX10_is_1
theorem dksX10_is_0 : cX10_is.data.toList.drop 0 = dktX10_is_0 := by decide +kernel
theorem dksX10_is_1 : cX10_is.data.toList.drop 24 = dktX10_is_1 := dk_seg dksX10_is_0 24 rfl rfl
theorem dksX10_is_2 : cX10_is.data.toList.drop 46 = dktX10_is_2 := dk_seg dksX10_is_1 22 rfl rfl
theorem dksX10_is_3 : cX10_is.data.toList.drop 68 = dktX10_is_3 := dk_seg dksX10_is_2 22 rfl rfl
theorem dX10_is_0 : decode cX10_is 0 = .ok (.iconst 0, 1) := dk_3 (dk_at dksX10_is_0 0 rfl rfl)
theorem dX10_is_1 : decode cX10_is 1 = .ok (.istore_n 2, 1) := dk_61 (dk_at dksX10_is_0 1 rfl rfl)
theorem dX10_is_2 : decode cX10_is 2 = .ok (.iconst 0, 1) := dk_3 (dk_at dksX10_is_0 2 rfl rfl)
theorem dX10_is_3 : decode cX10_is 3 = .ok (.istore_n 3, 1) := dk_62 (dk_at dksX10_is_0 3 rfl rfl)
theorem dX10_is_4 : decode cX10_is 4 = .ok (.iload_n 3, 1) := dk_29 (dk_at dksX10_is_0 4 rfl rfl)
theorem dX10_is_5 : decode cX10_is 5 = .ok (.aload_n 0, 1) := dk_42 (dk_at dksX10_is_0 5 rfl rfl)
theorem dX10_is_6 : decode cX10_is 6 = .ok (.getfield 13, 3) := dk_180 0 13 (dk_at dksX10_is_0 6 rfl rfl)
theorem dX10_is_9 : decode cX10_is 9 = .ok (.invokevirtual 17, 3) := dk_182 0 17 (dk_at dksX10_is_0 9 rfl rfl)
theorem dX10_is_12 : decode cX10_is 12 = .ok (.if_icmp .ge 37, 3) := dk_162 0 37 (dk_at dksX10_is_0 12 rfl rfl)
theorem dX10_is_15 : decode cX10_is 15 = .ok (.iload_n 2, 1) := dk_28 (dk_at dksX10_is_0 15 rfl rfl)
theorem dX10_is_16 : decode cX10_is 16 = .ok (.aload_n 0, 1) := dk_42 (dk_at dksX10_is_0 16 rfl rfl)
theorem dX10_is_17 : decode cX10_is 17 = .ok (.getfield 13, 3) := dk_180 0 13 (dk_at dksX10_is_0 17 rfl rfl)
theorem dX10_is_20 : decode cX10_is 20 = .ok (.iload_n 3, 1) := dk_29 (dk_at dksX10_is_0 20 rfl rfl)
theorem dX10_is_21 : decode cX10_is 21 = .ok (.invokevirtual 23, 3) := dk_182 0 23 (dk_at dksX10_is_0 21 rfl rfl)
theorem dX10_is_24 : decode cX10_is 24 = .ok (.checkcast 27, 3) := dk_192 0 27 (dk_at dksX10_is_1 0 rfl rfl)
theorem dX10_is_27 : decode cX10_is 27 = .ok (.aload_n 1, 1) := dk_43 (dk_at dksX10_is_1 3 rfl rfl)
theorem dX10_is_28 : decode cX10_is 28 = .ok (.invokeinterface 29 2, 5) := by decide +kernel
theorem dX10_is_33 : decode cX10_is 33 = .ok (.ifCond .eq 7, 3) := dk_153 0 7 (dk_at dksX10_is_1 9 rfl rfl)
theorem dX10_is_36 : decode cX10_is 36 = .ok (.iconst 1, 1) := dk_4 (dk_at dksX10_is_1 12 rfl rfl)
theorem dX10_is_37 : decode cX10_is 37 = .ok (.goto 4, 3) := dk_167 0 4 (dk_at dksX10_is_1 13 rfl rfl)
theorem dX10_is_40 : decode cX10_is 40 = .ok (.iconst 0, 1) := dk_3 (dk_at dksX10_is_1 16 rfl rfl)
theorem dX10_is_41 : decode cX10_is 41 = .ok (.iadd, 1) := dk_96 (dk_at dksX10_is_1 17 rfl rfl)
theorem dX10_is_42 : decode cX10_is 42 = .ok (.istore_n 2, 1) := dk_61 (dk_at dksX10_is_1 18 rfl rfl)
theorem dX10_is_43 : decode cX10_is 43 = .ok (.iinc 3 1, 3) := dk_132 3 1 (dk_at dksX10_is_1 19 rfl rfl)
theorem dX10_is_46 : decode cX10_is 46 = .ok (.goto (-42), 3) := dk_167 255 214 (dk_at dksX10_is_2 0 rfl rfl)
theorem dX10_is_49 : decode cX10_is 49 = .ok (.aload_n 0, 1) := dk_42 (dk_at dksX10_is_2 3 rfl rfl)
theorem dX10_is_50 : decode cX10_is 50 = .ok (.getfield 7, 3) := dk_180 0 7 (dk_at dksX10_is_2 4 rfl rfl)
theorem dX10_is_53 : decode cX10_is 53 = .ok (.ifCond .eq 22, 3) := dk_153 0 22 (dk_at dksX10_is_2 7 rfl rfl)
theorem dX10_is_56 : decode cX10_is 56 = .ok (.iload_n 2, 1) := dk_28 (dk_at dksX10_is_2 10 rfl rfl)
theorem dX10_is_57 : decode cX10_is 57 = .ok (.aload_n 0, 1) := dk_42 (dk_at dksX10_is_2 11 rfl rfl)
theorem dX10_is_58 : decode cX10_is 58 = .ok (.getfield 13, 3) := dk_180 0 13 (dk_at dksX10_is_2 12 rfl rfl)
theorem dX10_is_61 : decode cX10_is 61 = .ok (.invokevirtual 17, 3) := dk_182 0 17 (dk_at dksX10_is_2 15 rfl rfl)
theorem dX10_is_64 : decode cX10_is 64 = .ok (.if_icmp .ne 7, 3) := dk_160 0 7 (dk_at dksX10_is_2 18 rfl rfl)
theorem dX10_is_67 : decode cX10_is 67 = .ok (.iconst 1, 1) := dk_4 (dk_at dksX10_is_2 21 rfl rfl)
theorem dX10_is_68 : decode cX10_is 68 = .ok (.goto 16, 3) := dk_167 0 16 (dk_at dksX10_is_3 0 rfl rfl)
theorem dX10_is_71 : decode cX10_is 71 = .ok (.iconst 0, 1) := dk_3 (dk_at dksX10_is_3 3 rfl rfl)
theorem dX10_is_72 : decode cX10_is 72 = .ok (.goto 12, 3) := dk_167 0 12 (dk_at dksX10_is_3 4 rfl rfl)
theorem dX10_is_75 : decode cX10_is 75 = .ok (.iload_n 2, 1) := dk_28 (dk_at dksX10_is_3 7 rfl rfl)
theorem dX10_is_76 : decode cX10_is 76 = .ok (.ifCond .le 7, 3) := dk_158 0 7 (dk_at dksX10_is_3 8 rfl rfl)
theorem dX10_is_79 : decode cX10_is 79 = .ok (.iconst 1, 1) := dk_4 (dk_at dksX10_is_3 11 rfl rfl)
theorem dX10_is_80 : decode cX10_is 80 = .ok (.goto 4, 3) := dk_167 0 4 (dk_at dksX10_is_3 12 rfl rfl)
theorem dX10_is_83 : decode cX10_is 83 = .ok (.iconst 0, 1) := dk_3 (dk_at dksX10_is_3 15 rfl rfl)
theorem dX10_is_84 : decode cX10_is 84 = .ok (.ireturn, 1) := dk_172 (dk_at dksX10_is_3 16 rfl rfl)
theorem q146 : (Jvm.Cond.initialized "RailingsCount$All") ∈ lw_all := lw_g (lw_at lw_m1 26 rfl) rfl
theorem q638 : (Jvm.Cond.selects "RailingsCount$All" ({ cls := "java/lang/Object", name := "getClass", desc := "()Ljava/lang/Class;" } : Jvm.MethodName) ({ cls := "java/lang/Object", name := "getClass", desc := "()Ljava/lang/Class;" } : Jvm.MethodName)) ∈ lw_all := lw_g (lw_at lw_m3 38 rfl) rfl
theorem q685 : (Jvm.Cond.instantiable "RailingsCount$All" (2 : Nat)) ∈ lw_all := lw_g (lw_at lw_m3 85 rfl) rfl
theorem q687 : (Jvm.Cond.instanceMethod ({ cls := "RailingsCount$All", name := "<init>", desc := "(ZLjava/util/ArrayList;)V" } : Jvm.MethodName)) ∈ lw_all := lw_g (lw_at lw_m3 87 rfl) rfl
theorem q688 : (Jvm.Cond.code ({ cls := "RailingsCount$All", name := "<init>", desc := "(ZLjava/util/ArrayList;)V" } : Jvm.MethodName) prog_2_method_1_code (3 : Nat) (Option.none : Option Jvm.ClassFile.FieldType)) ∈ lw_all := lw_g (lw_at lw_m3 88 rfl) rfl
theorem q689 : (Jvm.Cond.methodLink "RailingsCount$All" (1 : Nat) ({ cls := "java/lang/Record", name := "<init>", desc := "()V" } : Jvm.MethodName)) ∈ lw_all := lw_g (lw_at lw_m3 89 rfl) rfl
theorem q690 : (Jvm.Cond.fieldLink "RailingsCount$All" (7 : Nat) "RailingsCount$All" "and" "Z") ∈ lw_all := lw_g (lw_at lw_m3 90 rfl) rfl
theorem q691 : (Jvm.Cond.fieldLink "RailingsCount$All" (13 : Nat) "RailingsCount$All" "of" "Ljava/util/ArrayList;") ∈ lw_all := lw_g (lw_at lw_m3 91 rfl) rfl
theorem q692 : (Jvm.Cond.laysFinal "RailingsCount$All" "RailingsCount$All" "and" "Z") ∈ lw_all := lw_g (lw_at lw_m3 92 rfl) rfl
theorem q693 : (Jvm.Cond.soleField "RailingsCount$All" "and") ∈ lw_all := lw_g (lw_at lw_m3 93 rfl) rfl
theorem q694 : (Jvm.Cond.laysFinal "RailingsCount$All" "RailingsCount$All" "of" "Ljava/util/ArrayList;") ∈ lw_all := lw_g (lw_at lw_m3 94 rfl) rfl
theorem q695 : (Jvm.Cond.soleField "RailingsCount$All" "of") ∈ lw_all := lw_g (lw_at lw_m3 95 rfl) rfl
theorem q696 : (Jvm.Cond.superclass "RailingsCount$All" "java/lang/Record") ∈ lw_all := lw_g (lw_at lw_m3 96 rfl) rfl
theorem q926 : (Jvm.Cond.castable "RailingsCount$All" "RailingsCount$Asked") ∈ lw_tbl := lw_at lw_m4 86 rfl
theorem q927 : (Jvm.Cond.selects "RailingsCount$All" ({ cls := "RailingsCount$Asked", name := "is", desc := "([I)Z" } : Jvm.MethodName) ({ cls := "RailingsCount$All", name := "is", desc := "([I)Z" } : Jvm.MethodName)) ∈ lw_all := lw_g (lw_at lw_m4 87 rfl) rfl
theorem q928 : (Jvm.Cond.unhidden "RailingsCount$All" "is" "([I)Z") ∈ lw_tbl := lw_at lw_m4 88 rfl
theorem q929 : (Jvm.Cond.instanceMethod ({ cls := "RailingsCount$All", name := "is", desc := "([I)Z" } : Jvm.MethodName)) ∈ lw_all := lw_g (lw_at lw_m4 89 rfl) rfl
theorem q930 : (Jvm.Cond.publicMethod ({ cls := "RailingsCount$All", name := "is", desc := "([I)Z" } : Jvm.MethodName)) ∈ lw_tbl := lw_at lw_m4 90 rfl
theorem q931 : (Jvm.Cond.code ({ cls := "RailingsCount$All", name := "is", desc := "([I)Z" } : Jvm.MethodName) prog_2_method_2_code (4 : Nat) (Option.some Jvm.ClassFile.FieldType.boolean)) ∈ lw_all := lw_g (lw_at lw_m4 91 rfl) rfl
theorem q932 : (Jvm.Cond.methodLink "RailingsCount$All" (17 : Nat) ({ cls := "java/util/ArrayList", name := "size", desc := "()I" } : Jvm.MethodName)) ∈ lw_all := lw_g (lw_at lw_m4 92 rfl) rfl
theorem q933 : (Jvm.Cond.methodLink "RailingsCount$All" (23 : Nat) ({ cls := "java/util/ArrayList", name := "get", desc := "(I)Ljava/lang/Object;" } : Jvm.MethodName)) ∈ lw_all := lw_g (lw_at lw_m4 93 rfl) rfl
theorem q934 : (Jvm.Cond.classLink "RailingsCount$All" (27 : Nat) "RailingsCount$Asked") ∈ lw_all := lw_g (lw_at lw_m4 94 rfl) rfl
theorem q935 : (Jvm.Cond.interfaceEntry "RailingsCount$All" (29 : Nat)) ∈ lw_tbl := lw_at lw_m4 95 rfl
theorem q936 : (Jvm.Cond.methodLink "RailingsCount$All" (29 : Nat) ({ cls := "RailingsCount$Asked", name := "is", desc := "([I)Z" } : Jvm.MethodName)) ∈ lw_all := lw_g (lw_at lw_m4 96 rfl) rfl
theorem q2028 : (Jvm.Cond.castable "RailingsCount$All" "java/lang/Object") ∈ lw_tbl := lw_at lw_m8 228 rfl
theorem in_X10 : ∀ w ∈ wsX100, w ∈ lw_all := lw_in wsX100 [692, 694] (by decide +kernel) (by decide +kernel)
/-! RailingsCount$If -/
set_option maxRecDepth 100000
def RX11 : String := "RailingsCount$If"
def TX11 : u_T := fun k => match k with
  | 0 => ("RailingsCount$If", "asked", "LRailingsCount$Asked;", true)
  | 1 => ("RailingsCount$If", "yes", "LRailingsCount$Sum;", true)
  | _ => ("RailingsCount$If", "no", "LRailingsCount$Sum;", true)
def tyX11 : Nat → FieldType := fun k => match k with
  | 0 => .object "RailingsCount$Asked"
  | 1 => .object "RailingsCount$Sum"
  | _ => .object "RailingsCount$Sum"
abbrev wsX110 : List Cond := u_ws RX11 TX11 3
theorem nmX11 : ∀ a, a < 3 → ∀ b, b < 3 → a ≠ b → (TX11 a).2.1 ≠ (TX11 b).2.1 := by decide +kernel
theorem tyX11_ok : ∀ k, k < 3 → parseFieldDescriptor (TX11 k).2.2.1 = some (tyX11 k) := by decide +kernel
abbrev cX11_init : ByteArray := prog_7_method_1_code
def yX11_init : MethodName := ⟨RX11, "<init>", "(LRailingsCount$Asked;LRailingsCount$Sum;LRailingsCount$Sum;)V"⟩
def dkwX11_init_0 : List UInt8 := [42, 183, 0, 1, 42, 43, 181, 0, 7, 42, 44, 181, 0, 13, 42, 45, 181, 0, 17, 177]
abbrev dktX11_init_0 : List UInt8 := dkwX11_init_0 ++ []
theorem dksX11_init_0 : cX11_init.data.toList.drop 0 = dktX11_init_0 := by decide +kernel
theorem dX11_init_0 : decode cX11_init 0 = .ok (.aload_n 0, 1) := dk_42 (dk_at dksX11_init_0 0 rfl rfl)
theorem dX11_init_1 : decode cX11_init 1 = .ok (.invokespecial 1, 3) := dk_183 0 1 (dk_at dksX11_init_0 1 rfl rfl)
theorem dX11_init_4 : decode cX11_init 4 = .ok (.aload_n 0, 1) := dk_42 (dk_at dksX11_init_0 4 rfl rfl)
theorem dX11_init_5 : decode cX11_init 5 = .ok (.aload_n 1, 1) := dk_43 (dk_at dksX11_init_0 5 rfl rfl)
theorem dX11_init_6 : decode cX11_init 6 = .ok (.putfield 7, 3) := dk_181 0 7 (dk_at dksX11_init_0 6 rfl rfl)
theorem dX11_init_9 : decode cX11_init 9 = .ok (.aload_n 0, 1) := dk_42 (dk_at dksX11_init_0 9 rfl rfl)
theorem dX11_init_10 : decode cX11_init 10 = .ok (.aload_n 2, 1) := dk_44 (dk_at dksX11_init_0 10 rfl rfl)
theorem dX11_init_11 : decode cX11_init 11 = .ok (.putfield 13, 3) := dk_181 0 13 (dk_at dksX11_init_0 11 rfl rfl)
theorem dX11_init_14 : decode cX11_init 14 = .ok (.aload_n 0, 1) := dk_42 (dk_at dksX11_init_0 14 rfl rfl)
theorem dX11_init_15 : decode cX11_init 15 = .ok (.aload_n 3, 1) := dk_45 (dk_at dksX11_init_0 15 rfl rfl)
theorem dX11_init_16 : decode cX11_init 16 = .ok (.putfield 17, 3) := dk_181 0 17 (dk_at dksX11_init_0 16 rfl rfl)
theorem dX11_init_19 : decode cX11_init 19 = .ok (.return_, 1) := dk_177 (dk_at dksX11_init_0 19 rfl rfl)
abbrev cX11_of : ByteArray := prog_7_method_2_code
def yX11_of : MethodName := ⟨RX11, "of", "([I)J"⟩
def dkwX11_of_1 : List UInt8 := [167, 0, 13, 42, 180, 0, 17, 43, 185, 0, 26, 2, 0, 173]
abbrev dktX11_of_1 : List UInt8 := dkwX11_of_1 ++ []
def dkwX11_of_0 : List UInt8 := [42, 180, 0, 7, 43, 185, 0, 20, 2, 0, 153, 0, 16, 42, 180, 0, 13, 43, 185, 0, 26, 2, 0]
abbrev dktX11_of_0 : List UInt8 := dkwX11_of_0 ++ dktX11_of_1
theorem dksX11_of_0 : cX11_of.data.toList.drop 0 = dktX11_of_0 := by decide +kernel
theorem dksX11_of_1 : cX11_of.data.toList.drop 23 = dktX11_of_1 := dk_seg dksX11_of_0 23 rfl rfl
theorem dX11_of_0 : decode cX11_of 0 = .ok (.aload_n 0, 1) := dk_42 (dk_at dksX11_of_0 0 rfl rfl)
theorem dX11_of_1 : decode cX11_of 1 = .ok (.getfield 7, 3) := dk_180 0 7 (dk_at dksX11_of_0 1 rfl rfl)
theorem dX11_of_4 : decode cX11_of 4 = .ok (.aload_n 1, 1) := dk_43 (dk_at dksX11_of_0 4 rfl rfl)
theorem dX11_of_5 : decode cX11_of 5 = .ok (.invokeinterface 20 2, 5) := by decide +kernel
theorem dX11_of_10 : decode cX11_of 10 = .ok (.ifCond .eq 16, 3) := dk_153 0 16 (dk_at dksX11_of_0 10 rfl rfl)
theorem dX11_of_13 : decode cX11_of 13 = .ok (.aload_n 0, 1) := dk_42 (dk_at dksX11_of_0 13 rfl rfl)
theorem dX11_of_14 : decode cX11_of 14 = .ok (.getfield 13, 3) := dk_180 0 13 (dk_at dksX11_of_0 14 rfl rfl)
theorem dX11_of_17 : decode cX11_of 17 = .ok (.aload_n 1, 1) := dk_43 (dk_at dksX11_of_0 17 rfl rfl)
theorem dX11_of_18 : decode cX11_of 18 = .ok (.invokeinterface 26 2, 5) := by decide +kernel
theorem dX11_of_23 : decode cX11_of 23 = .ok (.goto 13, 3) := dk_167 0 13 (dk_at dksX11_of_1 0 rfl rfl)
theorem dX11_of_26 : decode cX11_of 26 = .ok (.aload_n 0, 1) := dk_42 (dk_at dksX11_of_1 3 rfl rfl)
theorem dX11_of_27 : decode cX11_of 27 = .ok (.getfield 17, 3) := dk_180 0 17 (dk_at dksX11_of_1 4 rfl rfl)
theorem dX11_of_30 : decode cX11_of 30 = .ok (.aload_n 1, 1) := dk_43 (dk_at dksX11_of_1 7 rfl rfl)
theorem dX11_of_31 : decode cX11_of 31 = .ok (.invokeinterface 26 2, 5) := by decide +kernel
theorem dX11_of_36 : decode cX11_of 36 = .ok (.lreturn, 1) := dk_173 (dk_at dksX11_of_1 13 rfl rfl)
theorem q147 : (Jvm.Cond.initialized "RailingsCount$If") ∈ lw_all := lw_g (lw_at lw_m1 27 rfl) rfl
theorem q642 : (Jvm.Cond.selects "RailingsCount$If" ({ cls := "java/lang/Object", name := "getClass", desc := "()Ljava/lang/Class;" } : Jvm.MethodName) ({ cls := "java/lang/Object", name := "getClass", desc := "()Ljava/lang/Class;" } : Jvm.MethodName)) ∈ lw_all := lw_g (lw_at lw_m3 42 rfl) rfl
theorem q702 : (Jvm.Cond.instantiable "RailingsCount$If" (3 : Nat)) ∈ lw_all := lw_g (lw_at lw_m3 102 rfl) rfl
theorem q704 : (Jvm.Cond.instanceMethod ({ cls := "RailingsCount$If", name := "<init>", desc := "(LRailingsCount$Asked;LRailingsCount$Sum;LRailingsCount$Sum;)V" } : Jvm.MethodName)) ∈ lw_all := lw_g (lw_at lw_m3 104 rfl) rfl
theorem q705 : (Jvm.Cond.code ({ cls := "RailingsCount$If", name := "<init>", desc := "(LRailingsCount$Asked;LRailingsCount$Sum;LRailingsCount$Sum;)V" } : Jvm.MethodName) prog_7_method_1_code (4 : Nat) (Option.none : Option Jvm.ClassFile.FieldType)) ∈ lw_all := lw_g (lw_at lw_m3 105 rfl) rfl
theorem q706 : (Jvm.Cond.methodLink "RailingsCount$If" (1 : Nat) ({ cls := "java/lang/Record", name := "<init>", desc := "()V" } : Jvm.MethodName)) ∈ lw_all := lw_g (lw_at lw_m3 106 rfl) rfl
theorem q707 : (Jvm.Cond.fieldLink "RailingsCount$If" (7 : Nat) "RailingsCount$If" "asked" "LRailingsCount$Asked;") ∈ lw_all := lw_g (lw_at lw_m3 107 rfl) rfl
theorem q708 : (Jvm.Cond.fieldLink "RailingsCount$If" (13 : Nat) "RailingsCount$If" "yes" "LRailingsCount$Sum;") ∈ lw_all := lw_g (lw_at lw_m3 108 rfl) rfl
theorem q709 : (Jvm.Cond.fieldLink "RailingsCount$If" (17 : Nat) "RailingsCount$If" "no" "LRailingsCount$Sum;") ∈ lw_all := lw_g (lw_at lw_m3 109 rfl) rfl
theorem q710 : (Jvm.Cond.laysFinal "RailingsCount$If" "RailingsCount$If" "asked" "LRailingsCount$Asked;") ∈ lw_all := lw_g (lw_at lw_m3 110 rfl) rfl
theorem q711 : (Jvm.Cond.soleField "RailingsCount$If" "asked") ∈ lw_all := lw_g (lw_at lw_m3 111 rfl) rfl
theorem q712 : (Jvm.Cond.laysFinal "RailingsCount$If" "RailingsCount$If" "yes" "LRailingsCount$Sum;") ∈ lw_all := lw_g (lw_at lw_m3 112 rfl) rfl
theorem q713 : (Jvm.Cond.soleField "RailingsCount$If" "yes") ∈ lw_all := lw_g (lw_at lw_m3 113 rfl) rfl
theorem q714 : (Jvm.Cond.laysFinal "RailingsCount$If" "RailingsCount$If" "no" "LRailingsCount$Sum;") ∈ lw_all := lw_g (lw_at lw_m3 114 rfl) rfl
theorem q715 : (Jvm.Cond.soleField "RailingsCount$If" "no") ∈ lw_all := lw_g (lw_at lw_m3 115 rfl) rfl
theorem q716 : (Jvm.Cond.superclass "RailingsCount$If" "java/lang/Record") ∈ lw_all := lw_g (lw_at lw_m3 116 rfl) rfl
theorem q916 : (Jvm.Cond.castable "RailingsCount$If" "RailingsCount$Sum") ∈ lw_tbl := lw_at lw_m4 76 rfl
theorem q917 : (Jvm.Cond.selects "RailingsCount$If" ({ cls := "RailingsCount$Sum", name := "of", desc := "([I)J" } : Jvm.MethodName) ({ cls := "RailingsCount$If", name := "of", desc := "([I)J" } : Jvm.MethodName)) ∈ lw_all := lw_g (lw_at lw_m4 77 rfl) rfl
theorem q918 : (Jvm.Cond.unhidden "RailingsCount$If" "of" "([I)J") ∈ lw_tbl := lw_at lw_m4 78 rfl
theorem q919 : (Jvm.Cond.instanceMethod ({ cls := "RailingsCount$If", name := "of", desc := "([I)J" } : Jvm.MethodName)) ∈ lw_all := lw_g (lw_at lw_m4 79 rfl) rfl
theorem q920 : (Jvm.Cond.publicMethod ({ cls := "RailingsCount$If", name := "of", desc := "([I)J" } : Jvm.MethodName)) ∈ lw_tbl := lw_at lw_m4 80 rfl
theorem q921 : (Jvm.Cond.code ({ cls := "RailingsCount$If", name := "of", desc := "([I)J" } : Jvm.MethodName) prog_7_method_2_code (2 : Nat) (Option.some Jvm.ClassFile.FieldType.long)) ∈ lw_all := lw_g (lw_at lw_m4 81 rfl) rfl
theorem q922 : (Jvm.Cond.interfaceEntry "RailingsCount$If" (20 : Nat)) ∈ lw_tbl := lw_at lw_m4 82 rfl
theorem q923 : (Jvm.Cond.methodLink "RailingsCount$If" (20 : Nat) ({ cls := "RailingsCount$Asked", name := "is", desc := "([I)Z" } : Jvm.MethodName)) ∈ lw_all := lw_g (lw_at lw_m4 83 rfl) rfl
theorem q990 : (Jvm.Cond.interfaceEntry "RailingsCount$If" (26 : Nat)) ∈ lw_tbl := lw_at lw_m4 150 rfl
theorem q991 : (Jvm.Cond.methodLink "RailingsCount$If" (26 : Nat) ({ cls := "RailingsCount$Sum", name := "of", desc := "([I)J" } : Jvm.MethodName)) ∈ lw_all := lw_g (lw_at lw_m4 151 rfl) rfl
theorem q2029 : (Jvm.Cond.castable "RailingsCount$If" "java/lang/Object") ∈ lw_tbl := lw_at lw_m8 229 rfl
theorem in_X11 : ∀ w ∈ wsX110, w ∈ lw_all := lw_in wsX110 [710, 712, 714] (by decide +kernel) (by decide +kernel)
/-! RailingsCount$Round -/
set_option maxRecDepth 100000
def RX12 : String := "RailingsCount$Round"
def TX12 : u_T := fun k => match k with
  | 0 => ("RailingsCount$Round", "a", "LRailingsCount$Sum;", true)
  | _ => ("RailingsCount$Round", "b", "LRailingsCount$Sum;", true)
def tyX12 : Nat → FieldType := fun k => match k with
  | 0 => .object "RailingsCount$Sum"
  | _ => .object "RailingsCount$Sum"
abbrev wsX120 : List Cond := u_ws RX12 TX12 2
theorem nmX12 : ∀ a, a < 2 → ∀ b, b < 2 → a ≠ b → (TX12 a).2.1 ≠ (TX12 b).2.1 := by decide +kernel
theorem tyX12_ok : ∀ k, k < 2 → parseFieldDescriptor (TX12 k).2.2.1 = some (tyX12 k) := by decide +kernel
abbrev cX12_init : ByteArray := prog_13_method_1_code
def yX12_init : MethodName := ⟨RX12, "<init>", "(LRailingsCount$Sum;LRailingsCount$Sum;)V"⟩
def dkwX12_init_0 : List UInt8 := [42, 183, 0, 1, 42, 43, 181, 0, 7, 42, 44, 181, 0, 13, 177]
abbrev dktX12_init_0 : List UInt8 := dkwX12_init_0 ++ []
theorem dksX12_init_0 : cX12_init.data.toList.drop 0 = dktX12_init_0 := by decide +kernel
theorem dX12_init_0 : decode cX12_init 0 = .ok (.aload_n 0, 1) := dk_42 (dk_at dksX12_init_0 0 rfl rfl)
theorem dX12_init_1 : decode cX12_init 1 = .ok (.invokespecial 1, 3) := dk_183 0 1 (dk_at dksX12_init_0 1 rfl rfl)
theorem dX12_init_4 : decode cX12_init 4 = .ok (.aload_n 0, 1) := dk_42 (dk_at dksX12_init_0 4 rfl rfl)
theorem dX12_init_5 : decode cX12_init 5 = .ok (.aload_n 1, 1) := dk_43 (dk_at dksX12_init_0 5 rfl rfl)
theorem dX12_init_6 : decode cX12_init 6 = .ok (.putfield 7, 3) := dk_181 0 7 (dk_at dksX12_init_0 6 rfl rfl)
theorem dX12_init_9 : decode cX12_init 9 = .ok (.aload_n 0, 1) := dk_42 (dk_at dksX12_init_0 9 rfl rfl)
theorem dX12_init_10 : decode cX12_init 10 = .ok (.aload_n 2, 1) := dk_44 (dk_at dksX12_init_0 10 rfl rfl)
theorem dX12_init_11 : decode cX12_init 11 = .ok (.putfield 13, 3) := dk_181 0 13 (dk_at dksX12_init_0 11 rfl rfl)
theorem dX12_init_14 : decode cX12_init 14 = .ok (.return_, 1) := dk_177 (dk_at dksX12_init_0 14 rfl rfl)
abbrev cX12_of : ByteArray := prog_13_method_2_code
def yX12_of : MethodName := ⟨RX12, "of", "([I)J"⟩
def dkwX12_of_1 : List UInt8 := [22, 4, 9, 148, 157, 0, 7, 9, 167, 0, 13, 32, 22, 4, 113, 22, 4, 97, 22, 4, 113, 173]
abbrev dktX12_of_1 : List UInt8 := dkwX12_of_1 ++ []
def dkwX12_of_0 : List UInt8 := [42, 180, 0, 7, 43, 185, 0, 16, 2, 0, 65, 42, 180, 0, 13, 43, 185, 0, 16, 2, 0, 55, 4]
abbrev dktX12_of_0 : List UInt8 := dkwX12_of_0 ++ dktX12_of_1
theorem dksX12_of_0 : cX12_of.data.toList.drop 0 = dktX12_of_0 := by decide +kernel
theorem dksX12_of_1 : cX12_of.data.toList.drop 23 = dktX12_of_1 := dk_seg dksX12_of_0 23 rfl rfl
theorem dX12_of_0 : decode cX12_of 0 = .ok (.aload_n 0, 1) := dk_42 (dk_at dksX12_of_0 0 rfl rfl)
theorem dX12_of_1 : decode cX12_of 1 = .ok (.getfield 7, 3) := dk_180 0 7 (dk_at dksX12_of_0 1 rfl rfl)
theorem dX12_of_4 : decode cX12_of 4 = .ok (.aload_n 1, 1) := dk_43 (dk_at dksX12_of_0 4 rfl rfl)
theorem dX12_of_5 : decode cX12_of 5 = .ok (.invokeinterface 16 2, 5) := by decide +kernel
theorem dX12_of_10 : decode cX12_of 10 = .ok (.lstore_n 2, 1) := dk_65 (dk_at dksX12_of_0 10 rfl rfl)
theorem dX12_of_11 : decode cX12_of 11 = .ok (.aload_n 0, 1) := dk_42 (dk_at dksX12_of_0 11 rfl rfl)
theorem dX12_of_12 : decode cX12_of 12 = .ok (.getfield 13, 3) := dk_180 0 13 (dk_at dksX12_of_0 12 rfl rfl)
theorem dX12_of_15 : decode cX12_of 15 = .ok (.aload_n 1, 1) := dk_43 (dk_at dksX12_of_0 15 rfl rfl)
theorem dX12_of_16 : decode cX12_of 16 = .ok (.invokeinterface 16 2, 5) := by decide +kernel
theorem dX12_of_21 : decode cX12_of 21 = .ok (.lstore 4, 2) := dk_55 4 (dk_at dksX12_of_0 21 rfl rfl)
theorem dX12_of_23 : decode cX12_of 23 = .ok (.lload 4, 2) := dk_22 4 (dk_at dksX12_of_1 0 rfl rfl)
theorem dX12_of_25 : decode cX12_of 25 = .ok (.lconst 0, 1) := dk_9 (dk_at dksX12_of_1 2 rfl rfl)
theorem dX12_of_26 : decode cX12_of 26 = .ok (.lcmp, 1) := dk_148 (dk_at dksX12_of_1 3 rfl rfl)
theorem dX12_of_27 : decode cX12_of 27 = .ok (.ifCond .gt 7, 3) := dk_157 0 7 (dk_at dksX12_of_1 4 rfl rfl)
theorem dX12_of_30 : decode cX12_of 30 = .ok (.lconst 0, 1) := dk_9 (dk_at dksX12_of_1 7 rfl rfl)
theorem dX12_of_31 : decode cX12_of 31 = .ok (.goto 13, 3) := dk_167 0 13 (dk_at dksX12_of_1 8 rfl rfl)
theorem dX12_of_34 : decode cX12_of 34 = .ok (.lload_n 2, 1) := dk_32 (dk_at dksX12_of_1 11 rfl rfl)
theorem dX12_of_35 : decode cX12_of 35 = .ok (.lload 4, 2) := dk_22 4 (dk_at dksX12_of_1 12 rfl rfl)
theorem dX12_of_37 : decode cX12_of 37 = .ok (.lrem, 1) := dk_113 (dk_at dksX12_of_1 14 rfl rfl)
theorem dX12_of_38 : decode cX12_of 38 = .ok (.lload 4, 2) := dk_22 4 (dk_at dksX12_of_1 15 rfl rfl)
theorem dX12_of_40 : decode cX12_of 40 = .ok (.ladd, 1) := dk_97 (dk_at dksX12_of_1 17 rfl rfl)
theorem dX12_of_41 : decode cX12_of 41 = .ok (.lload 4, 2) := dk_22 4 (dk_at dksX12_of_1 18 rfl rfl)
theorem dX12_of_43 : decode cX12_of 43 = .ok (.lrem, 1) := dk_113 (dk_at dksX12_of_1 20 rfl rfl)
theorem dX12_of_44 : decode cX12_of 44 = .ok (.lreturn, 1) := dk_173 (dk_at dksX12_of_1 21 rfl rfl)
theorem q148 : (Jvm.Cond.initialized "RailingsCount$Round") ∈ lw_all := lw_g (lw_at lw_m1 28 rfl) rfl
theorem q648 : (Jvm.Cond.selects "RailingsCount$Round" ({ cls := "java/lang/Object", name := "getClass", desc := "()Ljava/lang/Class;" } : Jvm.MethodName) ({ cls := "java/lang/Object", name := "getClass", desc := "()Ljava/lang/Class;" } : Jvm.MethodName)) ∈ lw_all := lw_g (lw_at lw_m3 48 rfl) rfl
theorem q722 : (Jvm.Cond.instantiable "RailingsCount$Round" (2 : Nat)) ∈ lw_all := lw_g (lw_at lw_m3 122 rfl) rfl
theorem q724 : (Jvm.Cond.instanceMethod ({ cls := "RailingsCount$Round", name := "<init>", desc := "(LRailingsCount$Sum;LRailingsCount$Sum;)V" } : Jvm.MethodName)) ∈ lw_all := lw_g (lw_at lw_m3 124 rfl) rfl
theorem q725 : (Jvm.Cond.code ({ cls := "RailingsCount$Round", name := "<init>", desc := "(LRailingsCount$Sum;LRailingsCount$Sum;)V" } : Jvm.MethodName) prog_13_method_1_code (3 : Nat) (Option.none : Option Jvm.ClassFile.FieldType)) ∈ lw_all := lw_g (lw_at lw_m3 125 rfl) rfl
theorem q726 : (Jvm.Cond.methodLink "RailingsCount$Round" (1 : Nat) ({ cls := "java/lang/Record", name := "<init>", desc := "()V" } : Jvm.MethodName)) ∈ lw_all := lw_g (lw_at lw_m3 126 rfl) rfl
theorem q727 : (Jvm.Cond.fieldLink "RailingsCount$Round" (7 : Nat) "RailingsCount$Round" "a" "LRailingsCount$Sum;") ∈ lw_all := lw_g (lw_at lw_m3 127 rfl) rfl
theorem q728 : (Jvm.Cond.fieldLink "RailingsCount$Round" (13 : Nat) "RailingsCount$Round" "b" "LRailingsCount$Sum;") ∈ lw_all := lw_g (lw_at lw_m3 128 rfl) rfl
theorem q729 : (Jvm.Cond.laysFinal "RailingsCount$Round" "RailingsCount$Round" "a" "LRailingsCount$Sum;") ∈ lw_all := lw_g (lw_at lw_m3 129 rfl) rfl
theorem q730 : (Jvm.Cond.soleField "RailingsCount$Round" "a") ∈ lw_all := lw_g (lw_at lw_m3 130 rfl) rfl
theorem q731 : (Jvm.Cond.laysFinal "RailingsCount$Round" "RailingsCount$Round" "b" "LRailingsCount$Sum;") ∈ lw_all := lw_g (lw_at lw_m3 131 rfl) rfl
theorem q732 : (Jvm.Cond.soleField "RailingsCount$Round" "b") ∈ lw_all := lw_g (lw_at lw_m3 132 rfl) rfl
theorem q733 : (Jvm.Cond.superclass "RailingsCount$Round" "java/lang/Record") ∈ lw_all := lw_g (lw_at lw_m3 133 rfl) rfl
theorem q973 : (Jvm.Cond.castable "RailingsCount$Round" "RailingsCount$Sum") ∈ lw_tbl := lw_at lw_m4 133 rfl
theorem q974 : (Jvm.Cond.selects "RailingsCount$Round" ({ cls := "RailingsCount$Sum", name := "of", desc := "([I)J" } : Jvm.MethodName) ({ cls := "RailingsCount$Round", name := "of", desc := "([I)J" } : Jvm.MethodName)) ∈ lw_all := lw_g (lw_at lw_m4 134 rfl) rfl
theorem q975 : (Jvm.Cond.unhidden "RailingsCount$Round" "of" "([I)J") ∈ lw_tbl := lw_at lw_m4 135 rfl
theorem q976 : (Jvm.Cond.instanceMethod ({ cls := "RailingsCount$Round", name := "of", desc := "([I)J" } : Jvm.MethodName)) ∈ lw_all := lw_g (lw_at lw_m4 136 rfl) rfl
theorem q977 : (Jvm.Cond.publicMethod ({ cls := "RailingsCount$Round", name := "of", desc := "([I)J" } : Jvm.MethodName)) ∈ lw_tbl := lw_at lw_m4 137 rfl
theorem q978 : (Jvm.Cond.code ({ cls := "RailingsCount$Round", name := "of", desc := "([I)J" } : Jvm.MethodName) prog_13_method_2_code (6 : Nat) (Option.some Jvm.ClassFile.FieldType.long)) ∈ lw_all := lw_g (lw_at lw_m4 138 rfl) rfl
theorem q979 : (Jvm.Cond.interfaceEntry "RailingsCount$Round" (16 : Nat)) ∈ lw_tbl := lw_at lw_m4 139 rfl
theorem q980 : (Jvm.Cond.methodLink "RailingsCount$Round" (16 : Nat) ({ cls := "RailingsCount$Sum", name := "of", desc := "([I)J" } : Jvm.MethodName)) ∈ lw_all := lw_g (lw_at lw_m4 140 rfl) rfl
theorem q2030 : (Jvm.Cond.castable "RailingsCount$Round" "java/lang/Object") ∈ lw_tbl := lw_at lw_m8 230 rfl
theorem in_X12 : ∀ w ∈ wsX120, w ∈ lw_all := lw_in wsX120 [729, 731] (by decide +kernel) (by decide +kernel)
/-! RailingsCount$Name -/
set_option maxRecDepth 100000
def RX13 : String := "RailingsCount$Name"
def TX13 : u_T := fun k => match k with
  | _ => ("RailingsCount$Name", "which", "I", true)
def tyX13 : Nat → FieldType := fun k => match k with
  | _ => .int
abbrev wsX130 : List Cond := u_ws RX13 TX13 1
theorem nmX13 : ∀ a, a < 1 → ∀ b, b < 1 → a ≠ b → (TX13 a).2.1 ≠ (TX13 b).2.1 := by decide +kernel
theorem tyX13_ok : ∀ k, k < 1 → parseFieldDescriptor (TX13 k).2.2.1 = some (tyX13 k) := by decide +kernel
abbrev cX13_init : ByteArray := prog_10_method_1_code
def yX13_init : MethodName := ⟨RX13, "<init>", "(I)V"⟩
def dkwX13_init_0 : List UInt8 := [42, 183, 0, 1, 42, 27, 181, 0, 7, 177]
abbrev dktX13_init_0 : List UInt8 := dkwX13_init_0 ++ []
theorem dksX13_init_0 : cX13_init.data.toList.drop 0 = dktX13_init_0 := by decide +kernel
theorem dX13_init_0 : decode cX13_init 0 = .ok (.aload_n 0, 1) := dk_42 (dk_at dksX13_init_0 0 rfl rfl)
theorem dX13_init_1 : decode cX13_init 1 = .ok (.invokespecial 1, 3) := dk_183 0 1 (dk_at dksX13_init_0 1 rfl rfl)
theorem dX13_init_4 : decode cX13_init 4 = .ok (.aload_n 0, 1) := dk_42 (dk_at dksX13_init_0 4 rfl rfl)
theorem dX13_init_5 : decode cX13_init 5 = .ok (.iload_n 1, 1) := dk_27 (dk_at dksX13_init_0 5 rfl rfl)
theorem dX13_init_6 : decode cX13_init 6 = .ok (.putfield 7, 3) := dk_181 0 7 (dk_at dksX13_init_0 6 rfl rfl)
theorem dX13_init_9 : decode cX13_init 9 = .ok (.return_, 1) := dk_177 (dk_at dksX13_init_0 9 rfl rfl)
abbrev cX13_of : ByteArray := prog_10_method_2_code
def yX13_of : MethodName := ⟨RX13, "of", "([I)J"⟩
def dkwX13_of_0 : List UInt8 := [43, 42, 180, 0, 7, 46, 133, 173]
abbrev dktX13_of_0 : List UInt8 := dkwX13_of_0 ++ []
theorem dksX13_of_0 : cX13_of.data.toList.drop 0 = dktX13_of_0 := by decide +kernel
theorem dX13_of_0 : decode cX13_of 0 = .ok (.aload_n 1, 1) := dk_43 (dk_at dksX13_of_0 0 rfl rfl)
theorem dX13_of_1 : decode cX13_of 1 = .ok (.aload_n 0, 1) := dk_42 (dk_at dksX13_of_0 1 rfl rfl)
theorem dX13_of_2 : decode cX13_of 2 = .ok (.getfield 7, 3) := dk_180 0 7 (dk_at dksX13_of_0 2 rfl rfl)
theorem dX13_of_5 : decode cX13_of 5 = .ok (.iaload, 1) := dk_46 (dk_at dksX13_of_0 5 rfl rfl)
theorem dX13_of_6 : decode cX13_of 6 = .ok (.i2l, 1) := dk_133 (dk_at dksX13_of_0 6 rfl rfl)
theorem dX13_of_7 : decode cX13_of 7 = .ok (.lreturn, 1) := dk_173 (dk_at dksX13_of_0 7 rfl rfl)
theorem q149 : (Jvm.Cond.initialized "RailingsCount$Name") ∈ lw_all := lw_g (lw_at lw_m1 29 rfl) rfl
theorem q645 : (Jvm.Cond.selects "RailingsCount$Name" ({ cls := "java/lang/Object", name := "getClass", desc := "()Ljava/lang/Class;" } : Jvm.MethodName) ({ cls := "java/lang/Object", name := "getClass", desc := "()Ljava/lang/Class;" } : Jvm.MethodName)) ∈ lw_all := lw_g (lw_at lw_m3 45 rfl) rfl
theorem q745 : (Jvm.Cond.instantiable "RailingsCount$Name" (1 : Nat)) ∈ lw_all := lw_g (lw_at lw_m3 145 rfl) rfl
theorem q747 : (Jvm.Cond.instanceMethod ({ cls := "RailingsCount$Name", name := "<init>", desc := "(I)V" } : Jvm.MethodName)) ∈ lw_all := lw_g (lw_at lw_m3 147 rfl) rfl
theorem q748 : (Jvm.Cond.code ({ cls := "RailingsCount$Name", name := "<init>", desc := "(I)V" } : Jvm.MethodName) prog_10_method_1_code (2 : Nat) (Option.none : Option Jvm.ClassFile.FieldType)) ∈ lw_all := lw_g (lw_at lw_m3 148 rfl) rfl
theorem q749 : (Jvm.Cond.methodLink "RailingsCount$Name" (1 : Nat) ({ cls := "java/lang/Record", name := "<init>", desc := "()V" } : Jvm.MethodName)) ∈ lw_all := lw_g (lw_at lw_m3 149 rfl) rfl
theorem q750 : (Jvm.Cond.fieldLink "RailingsCount$Name" (7 : Nat) "RailingsCount$Name" "which" "I") ∈ lw_all := lw_g (lw_at lw_m3 150 rfl) rfl
theorem q751 : (Jvm.Cond.laysFinal "RailingsCount$Name" "RailingsCount$Name" "which" "I") ∈ lw_all := lw_g (lw_at lw_m3 151 rfl) rfl
theorem q752 : (Jvm.Cond.soleField "RailingsCount$Name" "which") ∈ lw_all := lw_g (lw_at lw_m3 152 rfl) rfl
theorem q753 : (Jvm.Cond.superclass "RailingsCount$Name" "java/lang/Record") ∈ lw_all := lw_g (lw_at lw_m3 153 rfl) rfl
theorem q961 : (Jvm.Cond.castable "RailingsCount$Name" "RailingsCount$Sum") ∈ lw_tbl := lw_at lw_m4 121 rfl
theorem q962 : (Jvm.Cond.selects "RailingsCount$Name" ({ cls := "RailingsCount$Sum", name := "of", desc := "([I)J" } : Jvm.MethodName) ({ cls := "RailingsCount$Name", name := "of", desc := "([I)J" } : Jvm.MethodName)) ∈ lw_all := lw_g (lw_at lw_m4 122 rfl) rfl
theorem q963 : (Jvm.Cond.unhidden "RailingsCount$Name" "of" "([I)J") ∈ lw_tbl := lw_at lw_m4 123 rfl
theorem q964 : (Jvm.Cond.instanceMethod ({ cls := "RailingsCount$Name", name := "of", desc := "([I)J" } : Jvm.MethodName)) ∈ lw_all := lw_g (lw_at lw_m4 124 rfl) rfl
theorem q965 : (Jvm.Cond.publicMethod ({ cls := "RailingsCount$Name", name := "of", desc := "([I)J" } : Jvm.MethodName)) ∈ lw_tbl := lw_at lw_m4 125 rfl
theorem q966 : (Jvm.Cond.code ({ cls := "RailingsCount$Name", name := "of", desc := "([I)J" } : Jvm.MethodName) prog_10_method_2_code (2 : Nat) (Option.some Jvm.ClassFile.FieldType.long)) ∈ lw_all := lw_g (lw_at lw_m4 126 rfl) rfl
theorem q2031 : (Jvm.Cond.castable "RailingsCount$Name" "java/lang/Object") ∈ lw_tbl := lw_at lw_m8 231 rfl
theorem in_X13 : ∀ w ∈ wsX130, w ∈ lw_all := lw_in wsX130 [751] (by decide +kernel) (by decide +kernel)
/-! RailingsCount$Kinds -/
set_option maxRecDepth 100000
def RX14 : String := "RailingsCount$Kinds"
def TX14 : u_T := fun k => match k with
  | _ => ("RailingsCount$Kinds", "place", "LRailingsCount$Sum;", true)
def tyX14 : Nat → FieldType := fun k => match k with
  | _ => .object "RailingsCount$Sum"
abbrev wsX140 : List Cond := u_ws RX14 TX14 1
theorem nmX14 : ∀ a, a < 1 → ∀ b, b < 1 → a ≠ b → (TX14 a).2.1 ≠ (TX14 b).2.1 := by decide +kernel
theorem tyX14_ok : ∀ k, k < 1 → parseFieldDescriptor (TX14 k).2.2.1 = some (tyX14 k) := by decide +kernel
abbrev cX14_init : ByteArray := prog_8_method_1_code
def yX14_init : MethodName := ⟨RX14, "<init>", "(LRailingsCount$Sum;)V"⟩
def dkwX14_init_0 : List UInt8 := [42, 183, 0, 3, 42, 43, 181, 0, 9, 177]
abbrev dktX14_init_0 : List UInt8 := dkwX14_init_0 ++ []
theorem dksX14_init_0 : cX14_init.data.toList.drop 0 = dktX14_init_0 := by decide +kernel
theorem dX14_init_0 : decode cX14_init 0 = .ok (.aload_n 0, 1) := dk_42 (dk_at dksX14_init_0 0 rfl rfl)
theorem dX14_init_1 : decode cX14_init 1 = .ok (.invokespecial 3, 3) := dk_183 0 3 (dk_at dksX14_init_0 1 rfl rfl)
theorem dX14_init_4 : decode cX14_init 4 = .ok (.aload_n 0, 1) := dk_42 (dk_at dksX14_init_0 4 rfl rfl)
theorem dX14_init_5 : decode cX14_init 5 = .ok (.aload_n 1, 1) := dk_43 (dk_at dksX14_init_0 5 rfl rfl)
theorem dX14_init_6 : decode cX14_init 6 = .ok (.putfield 9, 3) := dk_181 0 9 (dk_at dksX14_init_0 6 rfl rfl)
theorem dX14_init_9 : decode cX14_init 9 = .ok (.return_, 1) := dk_177 (dk_at dksX14_init_0 9 rfl rfl)
abbrev cX14_of : ByteArray := prog_8_method_2_code
def yX14_of : MethodName := ⟨RX14, "of", "([I)J"⟩
def dkwX14_of_1 : List UInt8 := [155, 0, 7, 9, 167, 0, 11, 43, 16, 8, 32, 136, 96, 46, 133, 173]
abbrev dktX14_of_1 : List UInt8 := dkwX14_of_1 ++ []
def dkwX14_of_0 : List UInt8 := [42, 180, 0, 9, 43, 185, 0, 15, 2, 0, 65, 32, 9, 148, 155, 0, 11, 32, 20, 0, 21, 148]
abbrev dktX14_of_0 : List UInt8 := dkwX14_of_0 ++ dktX14_of_1
theorem dksX14_of_0 : cX14_of.data.toList.drop 0 = dktX14_of_0 := by decide +kernel
theorem dksX14_of_1 : cX14_of.data.toList.drop 22 = dktX14_of_1 := dk_seg dksX14_of_0 22 rfl rfl
theorem dX14_of_0 : decode cX14_of 0 = .ok (.aload_n 0, 1) := dk_42 (dk_at dksX14_of_0 0 rfl rfl)
theorem dX14_of_1 : decode cX14_of 1 = .ok (.getfield 9, 3) := dk_180 0 9 (dk_at dksX14_of_0 1 rfl rfl)
theorem dX14_of_4 : decode cX14_of 4 = .ok (.aload_n 1, 1) := dk_43 (dk_at dksX14_of_0 4 rfl rfl)
theorem dX14_of_5 : decode cX14_of 5 = .ok (.invokeinterface 15 2, 5) := by decide +kernel
theorem dX14_of_10 : decode cX14_of 10 = .ok (.lstore_n 2, 1) := dk_65 (dk_at dksX14_of_0 10 rfl rfl)
theorem dX14_of_11 : decode cX14_of 11 = .ok (.lload_n 2, 1) := dk_32 (dk_at dksX14_of_0 11 rfl rfl)
theorem dX14_of_12 : decode cX14_of 12 = .ok (.lconst 0, 1) := dk_9 (dk_at dksX14_of_0 12 rfl rfl)
theorem dX14_of_13 : decode cX14_of 13 = .ok (.lcmp, 1) := dk_148 (dk_at dksX14_of_0 13 rfl rfl)
theorem dX14_of_14 : decode cX14_of 14 = .ok (.ifCond .lt 11, 3) := dk_155 0 11 (dk_at dksX14_of_0 14 rfl rfl)
theorem dX14_of_17 : decode cX14_of 17 = .ok (.lload_n 2, 1) := dk_32 (dk_at dksX14_of_0 17 rfl rfl)
theorem dX14_of_18 : decode cX14_of 18 = .ok (.ldc2_w 21, 3) := dk_20 0 21 (dk_at dksX14_of_0 18 rfl rfl)
theorem dX14_of_21 : decode cX14_of 21 = .ok (.lcmp, 1) := dk_148 (dk_at dksX14_of_0 21 rfl rfl)
theorem dX14_of_22 : decode cX14_of 22 = .ok (.ifCond .lt 7, 3) := dk_155 0 7 (dk_at dksX14_of_1 0 rfl rfl)
theorem dX14_of_25 : decode cX14_of 25 = .ok (.lconst 0, 1) := dk_9 (dk_at dksX14_of_1 3 rfl rfl)
theorem dX14_of_26 : decode cX14_of 26 = .ok (.goto 11, 3) := dk_167 0 11 (dk_at dksX14_of_1 4 rfl rfl)
theorem dX14_of_29 : decode cX14_of 29 = .ok (.aload_n 1, 1) := dk_43 (dk_at dksX14_of_1 7 rfl rfl)
theorem dX14_of_30 : decode cX14_of 30 = .ok (.bipush 8, 2) := dk_16 8 (dk_at dksX14_of_1 8 rfl rfl)
theorem dX14_of_32 : decode cX14_of 32 = .ok (.lload_n 2, 1) := dk_32 (dk_at dksX14_of_1 10 rfl rfl)
theorem dX14_of_33 : decode cX14_of 33 = .ok (.l2i, 1) := dk_136 (dk_at dksX14_of_1 11 rfl rfl)
theorem dX14_of_34 : decode cX14_of 34 = .ok (.iadd, 1) := dk_96 (dk_at dksX14_of_1 12 rfl rfl)
theorem dX14_of_35 : decode cX14_of 35 = .ok (.iaload, 1) := dk_46 (dk_at dksX14_of_1 13 rfl rfl)
theorem dX14_of_36 : decode cX14_of 36 = .ok (.i2l, 1) := dk_133 (dk_at dksX14_of_1 14 rfl rfl)
theorem dX14_of_37 : decode cX14_of 37 = .ok (.lreturn, 1) := dk_173 (dk_at dksX14_of_1 15 rfl rfl)
theorem q150 : (Jvm.Cond.initialized "RailingsCount$Kinds") ∈ lw_all := lw_g (lw_at lw_m1 30 rfl) rfl
theorem q643 : (Jvm.Cond.selects "RailingsCount$Kinds" ({ cls := "java/lang/Object", name := "getClass", desc := "()Ljava/lang/Class;" } : Jvm.MethodName) ({ cls := "java/lang/Object", name := "getClass", desc := "()Ljava/lang/Class;" } : Jvm.MethodName)) ∈ lw_all := lw_g (lw_at lw_m3 43 rfl) rfl
theorem q755 : (Jvm.Cond.instantiable "RailingsCount$Kinds" (1 : Nat)) ∈ lw_all := lw_g (lw_at lw_m3 155 rfl) rfl
theorem q757 : (Jvm.Cond.instanceMethod ({ cls := "RailingsCount$Kinds", name := "<init>", desc := "(LRailingsCount$Sum;)V" } : Jvm.MethodName)) ∈ lw_all := lw_g (lw_at lw_m3 157 rfl) rfl
theorem q758 : (Jvm.Cond.code ({ cls := "RailingsCount$Kinds", name := "<init>", desc := "(LRailingsCount$Sum;)V" } : Jvm.MethodName) prog_8_method_1_code (2 : Nat) (Option.none : Option Jvm.ClassFile.FieldType)) ∈ lw_all := lw_g (lw_at lw_m3 158 rfl) rfl
theorem q759 : (Jvm.Cond.methodLink "RailingsCount$Kinds" (3 : Nat) ({ cls := "java/lang/Record", name := "<init>", desc := "()V" } : Jvm.MethodName)) ∈ lw_all := lw_g (lw_at lw_m3 159 rfl) rfl
theorem q760 : (Jvm.Cond.fieldLink "RailingsCount$Kinds" (9 : Nat) "RailingsCount$Kinds" "place" "LRailingsCount$Sum;") ∈ lw_all := lw_g (lw_at lw_m3 160 rfl) rfl
theorem q761 : (Jvm.Cond.laysFinal "RailingsCount$Kinds" "RailingsCount$Kinds" "place" "LRailingsCount$Sum;") ∈ lw_all := lw_g (lw_at lw_m3 161 rfl) rfl
theorem q762 : (Jvm.Cond.soleField "RailingsCount$Kinds" "place") ∈ lw_all := lw_g (lw_at lw_m3 162 rfl) rfl
theorem q763 : (Jvm.Cond.superclass "RailingsCount$Kinds" "java/lang/Record") ∈ lw_all := lw_g (lw_at lw_m3 163 rfl) rfl
theorem q945 : (Jvm.Cond.castable "RailingsCount$Kinds" "RailingsCount$Sum") ∈ lw_tbl := lw_at lw_m4 105 rfl
theorem q946 : (Jvm.Cond.selects "RailingsCount$Kinds" ({ cls := "RailingsCount$Sum", name := "of", desc := "([I)J" } : Jvm.MethodName) ({ cls := "RailingsCount$Kinds", name := "of", desc := "([I)J" } : Jvm.MethodName)) ∈ lw_all := lw_g (lw_at lw_m4 106 rfl) rfl
theorem q947 : (Jvm.Cond.unhidden "RailingsCount$Kinds" "of" "([I)J") ∈ lw_tbl := lw_at lw_m4 107 rfl
theorem q948 : (Jvm.Cond.instanceMethod ({ cls := "RailingsCount$Kinds", name := "of", desc := "([I)J" } : Jvm.MethodName)) ∈ lw_all := lw_g (lw_at lw_m4 108 rfl) rfl
theorem q949 : (Jvm.Cond.publicMethod ({ cls := "RailingsCount$Kinds", name := "of", desc := "([I)J" } : Jvm.MethodName)) ∈ lw_tbl := lw_at lw_m4 109 rfl
theorem q950 : (Jvm.Cond.code ({ cls := "RailingsCount$Kinds", name := "of", desc := "([I)J" } : Jvm.MethodName) prog_8_method_2_code (4 : Nat) (Option.some Jvm.ClassFile.FieldType.long)) ∈ lw_all := lw_g (lw_at lw_m4 110 rfl) rfl
theorem q951 : (Jvm.Cond.interfaceEntry "RailingsCount$Kinds" (15 : Nat)) ∈ lw_tbl := lw_at lw_m4 111 rfl
theorem q952 : (Jvm.Cond.methodLink "RailingsCount$Kinds" (15 : Nat) ({ cls := "RailingsCount$Sum", name := "of", desc := "([I)J" } : Jvm.MethodName)) ∈ lw_all := lw_g (lw_at lw_m4 112 rfl) rfl
theorem q981 : (Jvm.Cond.constantLong "RailingsCount$Kinds" (21 : Nat) (30 : Int64)) ∈ lw_all := lw_g (lw_at lw_m4 141 rfl) rfl
theorem q2032 : (Jvm.Cond.castable "RailingsCount$Kinds" "java/lang/Object") ∈ lw_tbl := lw_at lw_m8 232 rfl
theorem in_X14 : ∀ w ∈ wsX140, w ∈ lw_all := lw_in wsX140 [761] (by decide +kernel) (by decide +kernel)
/-! RailingsCount$Minus -/
set_option maxRecDepth 100000
def RX15 : String := "RailingsCount$Minus"
def TX15 : u_T := fun k => match k with
  | _ => ("RailingsCount$Minus", "x", "LRailingsCount$Sum;", true)
def tyX15 : Nat → FieldType := fun k => match k with
  | _ => .object "RailingsCount$Sum"
abbrev wsX150 : List Cond := u_ws RX15 TX15 1
theorem nmX15 : ∀ a, a < 1 → ∀ b, b < 1 → a ≠ b → (TX15 a).2.1 ≠ (TX15 b).2.1 := by decide +kernel
theorem tyX15_ok : ∀ k, k < 1 → parseFieldDescriptor (TX15 k).2.2.1 = some (tyX15 k) := by decide +kernel
abbrev cX15_init : ByteArray := prog_9_method_1_code
def yX15_init : MethodName := ⟨RX15, "<init>", "(LRailingsCount$Sum;)V"⟩
def dkwX15_init_0 : List UInt8 := [42, 183, 0, 1, 42, 43, 181, 0, 7, 177]
abbrev dktX15_init_0 : List UInt8 := dkwX15_init_0 ++ []
theorem dksX15_init_0 : cX15_init.data.toList.drop 0 = dktX15_init_0 := by decide +kernel
theorem dX15_init_0 : decode cX15_init 0 = .ok (.aload_n 0, 1) := dk_42 (dk_at dksX15_init_0 0 rfl rfl)
theorem dX15_init_1 : decode cX15_init 1 = .ok (.invokespecial 1, 3) := dk_183 0 1 (dk_at dksX15_init_0 1 rfl rfl)
theorem dX15_init_4 : decode cX15_init 4 = .ok (.aload_n 0, 1) := dk_42 (dk_at dksX15_init_0 4 rfl rfl)
theorem dX15_init_5 : decode cX15_init 5 = .ok (.aload_n 1, 1) := dk_43 (dk_at dksX15_init_0 5 rfl rfl)
theorem dX15_init_6 : decode cX15_init 6 = .ok (.putfield 7, 3) := dk_181 0 7 (dk_at dksX15_init_0 6 rfl rfl)
theorem dX15_init_9 : decode cX15_init 9 = .ok (.return_, 1) := dk_177 (dk_at dksX15_init_0 9 rfl rfl)
abbrev cX15_of : ByteArray := prog_9_method_2_code
def yX15_of : MethodName := ⟨RX15, "of", "([I)J"⟩
def dkwX15_of_0 : List UInt8 := [42, 180, 0, 7, 43, 185, 0, 13, 2, 0, 117, 173]
abbrev dktX15_of_0 : List UInt8 := dkwX15_of_0 ++ []
theorem dksX15_of_0 : cX15_of.data.toList.drop 0 = dktX15_of_0 := by decide +kernel
theorem dX15_of_0 : decode cX15_of 0 = .ok (.aload_n 0, 1) := dk_42 (dk_at dksX15_of_0 0 rfl rfl)
theorem dX15_of_1 : decode cX15_of 1 = .ok (.getfield 7, 3) := dk_180 0 7 (dk_at dksX15_of_0 1 rfl rfl)
theorem dX15_of_4 : decode cX15_of 4 = .ok (.aload_n 1, 1) := dk_43 (dk_at dksX15_of_0 4 rfl rfl)
theorem dX15_of_5 : decode cX15_of 5 = .ok (.invokeinterface 13 2, 5) := by decide +kernel
theorem dX15_of_10 : decode cX15_of 10 = .ok (.lneg, 1) := dk_117 (dk_at dksX15_of_0 10 rfl rfl)
theorem dX15_of_11 : decode cX15_of 11 = .ok (.lreturn, 1) := dk_173 (dk_at dksX15_of_0 11 rfl rfl)
theorem q151 : (Jvm.Cond.initialized "RailingsCount$Minus") ∈ lw_all := lw_g (lw_at lw_m1 31 rfl) rfl
theorem q644 : (Jvm.Cond.selects "RailingsCount$Minus" ({ cls := "java/lang/Object", name := "getClass", desc := "()Ljava/lang/Class;" } : Jvm.MethodName) ({ cls := "java/lang/Object", name := "getClass", desc := "()Ljava/lang/Class;" } : Jvm.MethodName)) ∈ lw_all := lw_g (lw_at lw_m3 44 rfl) rfl
theorem q765 : (Jvm.Cond.instantiable "RailingsCount$Minus" (1 : Nat)) ∈ lw_all := lw_g (lw_at lw_m3 165 rfl) rfl
theorem q767 : (Jvm.Cond.instanceMethod ({ cls := "RailingsCount$Minus", name := "<init>", desc := "(LRailingsCount$Sum;)V" } : Jvm.MethodName)) ∈ lw_all := lw_g (lw_at lw_m3 167 rfl) rfl
theorem q768 : (Jvm.Cond.code ({ cls := "RailingsCount$Minus", name := "<init>", desc := "(LRailingsCount$Sum;)V" } : Jvm.MethodName) prog_9_method_1_code (2 : Nat) (Option.none : Option Jvm.ClassFile.FieldType)) ∈ lw_all := lw_g (lw_at lw_m3 168 rfl) rfl
theorem q769 : (Jvm.Cond.methodLink "RailingsCount$Minus" (1 : Nat) ({ cls := "java/lang/Record", name := "<init>", desc := "()V" } : Jvm.MethodName)) ∈ lw_all := lw_g (lw_at lw_m3 169 rfl) rfl
theorem q770 : (Jvm.Cond.fieldLink "RailingsCount$Minus" (7 : Nat) "RailingsCount$Minus" "x" "LRailingsCount$Sum;") ∈ lw_all := lw_g (lw_at lw_m3 170 rfl) rfl
theorem q771 : (Jvm.Cond.laysFinal "RailingsCount$Minus" "RailingsCount$Minus" "x" "LRailingsCount$Sum;") ∈ lw_all := lw_g (lw_at lw_m3 171 rfl) rfl
theorem q772 : (Jvm.Cond.soleField "RailingsCount$Minus" "x") ∈ lw_all := lw_g (lw_at lw_m3 172 rfl) rfl
theorem q773 : (Jvm.Cond.superclass "RailingsCount$Minus" "java/lang/Record") ∈ lw_all := lw_g (lw_at lw_m3 173 rfl) rfl
theorem q953 : (Jvm.Cond.castable "RailingsCount$Minus" "RailingsCount$Sum") ∈ lw_tbl := lw_at lw_m4 113 rfl
theorem q954 : (Jvm.Cond.selects "RailingsCount$Minus" ({ cls := "RailingsCount$Sum", name := "of", desc := "([I)J" } : Jvm.MethodName) ({ cls := "RailingsCount$Minus", name := "of", desc := "([I)J" } : Jvm.MethodName)) ∈ lw_all := lw_g (lw_at lw_m4 114 rfl) rfl
theorem q955 : (Jvm.Cond.unhidden "RailingsCount$Minus" "of" "([I)J") ∈ lw_tbl := lw_at lw_m4 115 rfl
theorem q956 : (Jvm.Cond.instanceMethod ({ cls := "RailingsCount$Minus", name := "of", desc := "([I)J" } : Jvm.MethodName)) ∈ lw_all := lw_g (lw_at lw_m4 116 rfl) rfl
theorem q957 : (Jvm.Cond.publicMethod ({ cls := "RailingsCount$Minus", name := "of", desc := "([I)J" } : Jvm.MethodName)) ∈ lw_tbl := lw_at lw_m4 117 rfl
theorem q958 : (Jvm.Cond.code ({ cls := "RailingsCount$Minus", name := "of", desc := "([I)J" } : Jvm.MethodName) prog_9_method_2_code (2 : Nat) (Option.some Jvm.ClassFile.FieldType.long)) ∈ lw_all := lw_g (lw_at lw_m4 118 rfl) rfl
theorem q959 : (Jvm.Cond.interfaceEntry "RailingsCount$Minus" (13 : Nat)) ∈ lw_tbl := lw_at lw_m4 119 rfl
theorem q960 : (Jvm.Cond.methodLink "RailingsCount$Minus" (13 : Nat) ({ cls := "RailingsCount$Sum", name := "of", desc := "([I)J" } : Jvm.MethodName)) ∈ lw_all := lw_g (lw_at lw_m4 120 rfl) rfl
theorem q2033 : (Jvm.Cond.castable "RailingsCount$Minus" "java/lang/Object") ∈ lw_tbl := lw_at lw_m8 233 rfl
theorem in_X15 : ∀ w ∈ wsX150, w ∈ lw_all := lw_in wsX150 [771] (by decide +kernel) (by decide +kernel)
/-! RailingsCount$Doing -/
set_option maxRecDepth 100000
def RX16 : String := "RailingsCount$Doing"
def TX16 : u_T := fun k => match k with
  | 0 => ("RailingsCount$Doing", "sort", "I", true)
  | 1 => ("RailingsCount$Doing", "a", "I", true)
  | 2 => ("RailingsCount$Doing", "b", "I", true)
  | _ => ("RailingsCount$Doing", "number", "I", true)
def tyX16 : Nat → FieldType := fun k => match k with
  | 0 => .int
  | 1 => .int
  | 2 => .int
  | _ => .int
abbrev wsX160 : List Cond := u_ws RX16 TX16 4
theorem nmX16 : ∀ a, a < 4 → ∀ b, b < 4 → a ≠ b → (TX16 a).2.1 ≠ (TX16 b).2.1 := by decide +kernel
theorem tyX16_ok : ∀ k, k < 4 → parseFieldDescriptor (TX16 k).2.2.1 = some (tyX16 k) := by decide +kernel
abbrev cX16_init : ByteArray := prog_6_method_1_code
def yX16_init : MethodName := ⟨RX16, "<init>", "(IIII)V"⟩
def dkwX16_init_1 : List UInt8 := [181, 0, 19, 177]
abbrev dktX16_init_1 : List UInt8 := dkwX16_init_1 ++ []
def dkwX16_init_0 : List UInt8 := [42, 183, 0, 1, 42, 27, 181, 0, 7, 42, 28, 181, 0, 13, 42, 29, 181, 0, 16, 42, 21, 4]
abbrev dktX16_init_0 : List UInt8 := dkwX16_init_0 ++ dktX16_init_1
theorem dksX16_init_0 : cX16_init.data.toList.drop 0 = dktX16_init_0 := by decide +kernel
theorem dksX16_init_1 : cX16_init.data.toList.drop 22 = dktX16_init_1 := dk_seg dksX16_init_0 22 rfl rfl
theorem dX16_init_0 : decode cX16_init 0 = .ok (.aload_n 0, 1) := dk_42 (dk_at dksX16_init_0 0 rfl rfl)
theorem dX16_init_1 : decode cX16_init 1 = .ok (.invokespecial 1, 3) := dk_183 0 1 (dk_at dksX16_init_0 1 rfl rfl)
theorem dX16_init_4 : decode cX16_init 4 = .ok (.aload_n 0, 1) := dk_42 (dk_at dksX16_init_0 4 rfl rfl)
theorem dX16_init_5 : decode cX16_init 5 = .ok (.iload_n 1, 1) := dk_27 (dk_at dksX16_init_0 5 rfl rfl)
theorem dX16_init_6 : decode cX16_init 6 = .ok (.putfield 7, 3) := dk_181 0 7 (dk_at dksX16_init_0 6 rfl rfl)
theorem dX16_init_9 : decode cX16_init 9 = .ok (.aload_n 0, 1) := dk_42 (dk_at dksX16_init_0 9 rfl rfl)
theorem dX16_init_10 : decode cX16_init 10 = .ok (.iload_n 2, 1) := dk_28 (dk_at dksX16_init_0 10 rfl rfl)
theorem dX16_init_11 : decode cX16_init 11 = .ok (.putfield 13, 3) := dk_181 0 13 (dk_at dksX16_init_0 11 rfl rfl)
theorem dX16_init_14 : decode cX16_init 14 = .ok (.aload_n 0, 1) := dk_42 (dk_at dksX16_init_0 14 rfl rfl)
theorem dX16_init_15 : decode cX16_init 15 = .ok (.iload_n 3, 1) := dk_29 (dk_at dksX16_init_0 15 rfl rfl)
theorem dX16_init_16 : decode cX16_init 16 = .ok (.putfield 16, 3) := dk_181 0 16 (dk_at dksX16_init_0 16 rfl rfl)
theorem dX16_init_19 : decode cX16_init 19 = .ok (.aload_n 0, 1) := dk_42 (dk_at dksX16_init_0 19 rfl rfl)
theorem dX16_init_20 : decode cX16_init 20 = .ok (.iload 4, 2) := dk_21 4 (dk_at dksX16_init_0 20 rfl rfl)
theorem dX16_init_22 : decode cX16_init 22 = .ok (.putfield 19, 3) := dk_181 0 19 (dk_at dksX16_init_1 0 rfl rfl)
theorem dX16_init_25 : decode cX16_init 25 = .ok (.return_, 1) := dk_177 (dk_at dksX16_init_1 3 rfl rfl)
abbrev cX16_sort : ByteArray := prog_6_method_5_code
def yX16_sort : MethodName := ⟨RX16, "sort", "()I"⟩
theorem dX16_sort_0 : decode cX16_sort 0 = .ok (.aload_n 0, 1) := by decide +kernel
theorem dX16_sort_1 : decode cX16_sort 1 = .ok (.getfield 7, 3) := by decide +kernel
theorem dX16_sort_4 : decode cX16_sort 4 = .ok (.ireturn, 1) := by decide +kernel
abbrev cX16_a : ByteArray := prog_6_method_6_code
def yX16_a : MethodName := ⟨RX16, "a", "()I"⟩
theorem dX16_a_0 : decode cX16_a 0 = .ok (.aload_n 0, 1) := by decide +kernel
theorem dX16_a_1 : decode cX16_a 1 = .ok (.getfield 13, 3) := by decide +kernel
theorem dX16_a_4 : decode cX16_a 4 = .ok (.ireturn, 1) := by decide +kernel
abbrev cX16_b : ByteArray := prog_6_method_7_code
def yX16_b : MethodName := ⟨RX16, "b", "()I"⟩
theorem dX16_b_0 : decode cX16_b 0 = .ok (.aload_n 0, 1) := by decide +kernel
theorem dX16_b_1 : decode cX16_b 1 = .ok (.getfield 16, 3) := by decide +kernel
theorem dX16_b_4 : decode cX16_b 4 = .ok (.ireturn, 1) := by decide +kernel
abbrev cX16_number : ByteArray := prog_6_method_8_code
def yX16_number : MethodName := ⟨RX16, "number", "()I"⟩
theorem dX16_number_0 : decode cX16_number 0 = .ok (.aload_n 0, 1) := by decide +kernel
theorem dX16_number_1 : decode cX16_number 1 = .ok (.getfield 19, 3) := by decide +kernel
theorem dX16_number_4 : decode cX16_number 4 = .ok (.ireturn, 1) := by decide +kernel
theorem q155 : (Jvm.Cond.initialized "RailingsCount$Doing") ∈ lw_all := lw_g (lw_at lw_m1 35 rfl) rfl
theorem q641 : (Jvm.Cond.selects "RailingsCount$Doing" ({ cls := "java/lang/Object", name := "getClass", desc := "()Ljava/lang/Class;" } : Jvm.MethodName) ({ cls := "java/lang/Object", name := "getClass", desc := "()Ljava/lang/Class;" } : Jvm.MethodName)) ∈ lw_all := lw_g (lw_at lw_m3 41 rfl) rfl
theorem q832 : (Jvm.Cond.instantiable "RailingsCount$Doing" (4 : Nat)) ∈ lw_all := lw_g (lw_at lw_m3 232 rfl) rfl
theorem q834 : (Jvm.Cond.instanceMethod ({ cls := "RailingsCount$Doing", name := "<init>", desc := "(IIII)V" } : Jvm.MethodName)) ∈ lw_all := lw_g (lw_at lw_m3 234 rfl) rfl
theorem q835 : (Jvm.Cond.code ({ cls := "RailingsCount$Doing", name := "<init>", desc := "(IIII)V" } : Jvm.MethodName) prog_6_method_1_code (5 : Nat) (Option.none : Option Jvm.ClassFile.FieldType)) ∈ lw_all := lw_g (lw_at lw_m3 235 rfl) rfl
theorem q836 : (Jvm.Cond.methodLink "RailingsCount$Doing" (1 : Nat) ({ cls := "java/lang/Record", name := "<init>", desc := "()V" } : Jvm.MethodName)) ∈ lw_all := lw_g (lw_at lw_m3 236 rfl) rfl
theorem q837 : (Jvm.Cond.fieldLink "RailingsCount$Doing" (7 : Nat) "RailingsCount$Doing" "sort" "I") ∈ lw_all := lw_g (lw_at lw_m3 237 rfl) rfl
theorem q838 : (Jvm.Cond.fieldLink "RailingsCount$Doing" (13 : Nat) "RailingsCount$Doing" "a" "I") ∈ lw_all := lw_g (lw_at lw_m3 238 rfl) rfl
theorem q839 : (Jvm.Cond.fieldLink "RailingsCount$Doing" (16 : Nat) "RailingsCount$Doing" "b" "I") ∈ lw_all := lw_g (lw_at lw_m3 239 rfl) rfl
theorem q840 : (Jvm.Cond.fieldLink "RailingsCount$Doing" (19 : Nat) "RailingsCount$Doing" "number" "I") ∈ lw_all := lw_g (lw_at lw_m4 0 rfl) rfl
theorem q841 : (Jvm.Cond.laysFinal "RailingsCount$Doing" "RailingsCount$Doing" "sort" "I") ∈ lw_all := lw_g (lw_at lw_m4 1 rfl) rfl
theorem q842 : (Jvm.Cond.soleField "RailingsCount$Doing" "sort") ∈ lw_all := lw_g (lw_at lw_m4 2 rfl) rfl
theorem q843 : (Jvm.Cond.laysFinal "RailingsCount$Doing" "RailingsCount$Doing" "a" "I") ∈ lw_all := lw_g (lw_at lw_m4 3 rfl) rfl
theorem q844 : (Jvm.Cond.soleField "RailingsCount$Doing" "a") ∈ lw_all := lw_g (lw_at lw_m4 4 rfl) rfl
theorem q845 : (Jvm.Cond.laysFinal "RailingsCount$Doing" "RailingsCount$Doing" "b" "I") ∈ lw_all := lw_g (lw_at lw_m4 5 rfl) rfl
theorem q846 : (Jvm.Cond.soleField "RailingsCount$Doing" "b") ∈ lw_all := lw_g (lw_at lw_m4 6 rfl) rfl
theorem q847 : (Jvm.Cond.laysFinal "RailingsCount$Doing" "RailingsCount$Doing" "number" "I") ∈ lw_all := lw_g (lw_at lw_m4 7 rfl) rfl
theorem q848 : (Jvm.Cond.soleField "RailingsCount$Doing" "number") ∈ lw_all := lw_g (lw_at lw_m4 8 rfl) rfl
theorem q849 : (Jvm.Cond.superclass "RailingsCount$Doing" "java/lang/Record") ∈ lw_all := lw_g (lw_at lw_m4 9 rfl) rfl
theorem q1069 : (Jvm.Cond.instanceMethod ({ cls := "RailingsCount$Doing", name := "sort", desc := "()I" } : Jvm.MethodName)) ∈ lw_all := lw_g (lw_at lw_m4 229 rfl) rfl
theorem q1070 : (Jvm.Cond.selects "RailingsCount$Doing" ({ cls := "RailingsCount$Doing", name := "sort", desc := "()I" } : Jvm.MethodName) ({ cls := "RailingsCount$Doing", name := "sort", desc := "()I" } : Jvm.MethodName)) ∈ lw_all := lw_g (lw_at lw_m4 230 rfl) rfl
theorem q1071 : (Jvm.Cond.code ({ cls := "RailingsCount$Doing", name := "sort", desc := "()I" } : Jvm.MethodName) prog_6_method_5_code (1 : Nat) (Option.some Jvm.ClassFile.FieldType.int)) ∈ lw_all := lw_g (lw_at lw_m4 231 rfl) rfl
theorem q1073 : (Jvm.Cond.instanceMethod ({ cls := "RailingsCount$Doing", name := "a", desc := "()I" } : Jvm.MethodName)) ∈ lw_all := lw_g (lw_at lw_m4 233 rfl) rfl
theorem q1074 : (Jvm.Cond.selects "RailingsCount$Doing" ({ cls := "RailingsCount$Doing", name := "a", desc := "()I" } : Jvm.MethodName) ({ cls := "RailingsCount$Doing", name := "a", desc := "()I" } : Jvm.MethodName)) ∈ lw_all := lw_g (lw_at lw_m4 234 rfl) rfl
theorem q1075 : (Jvm.Cond.code ({ cls := "RailingsCount$Doing", name := "a", desc := "()I" } : Jvm.MethodName) prog_6_method_6_code (1 : Nat) (Option.some Jvm.ClassFile.FieldType.int)) ∈ lw_all := lw_g (lw_at lw_m4 235 rfl) rfl
theorem q1077 : (Jvm.Cond.instanceMethod ({ cls := "RailingsCount$Doing", name := "b", desc := "()I" } : Jvm.MethodName)) ∈ lw_all := lw_g (lw_at lw_m4 237 rfl) rfl
theorem q1078 : (Jvm.Cond.selects "RailingsCount$Doing" ({ cls := "RailingsCount$Doing", name := "b", desc := "()I" } : Jvm.MethodName) ({ cls := "RailingsCount$Doing", name := "b", desc := "()I" } : Jvm.MethodName)) ∈ lw_all := lw_g (lw_at lw_m4 238 rfl) rfl
theorem q1079 : (Jvm.Cond.code ({ cls := "RailingsCount$Doing", name := "b", desc := "()I" } : Jvm.MethodName) prog_6_method_7_code (1 : Nat) (Option.some Jvm.ClassFile.FieldType.int)) ∈ lw_all := lw_g (lw_at lw_m4 239 rfl) rfl
theorem q1092 : (Jvm.Cond.instanceMethod ({ cls := "RailingsCount$Doing", name := "number", desc := "()I" } : Jvm.MethodName)) ∈ lw_all := lw_g (lw_at lw_m5 12 rfl) rfl
theorem q1093 : (Jvm.Cond.selects "RailingsCount$Doing" ({ cls := "RailingsCount$Doing", name := "number", desc := "()I" } : Jvm.MethodName) ({ cls := "RailingsCount$Doing", name := "number", desc := "()I" } : Jvm.MethodName)) ∈ lw_all := lw_g (lw_at lw_m5 13 rfl) rfl
theorem q1094 : (Jvm.Cond.code ({ cls := "RailingsCount$Doing", name := "number", desc := "()I" } : Jvm.MethodName) prog_6_method_8_code (1 : Nat) (Option.some Jvm.ClassFile.FieldType.int)) ∈ lw_all := lw_g (lw_at lw_m5 14 rfl) rfl
theorem q2035 : (Jvm.Cond.castable "RailingsCount$Doing" "java/lang/Object") ∈ lw_tbl := lw_at lw_m8 235 rfl
theorem in_X16 : ∀ w ∈ wsX160, w ∈ lw_all := lw_in wsX160 [841, 843, 845, 847] (by decide +kernel) (by decide +kernel)
/-! java/util/Arrays -/
set_option maxRecDepth 100000
def RJ0 : String := "java/util/Arrays"
abbrev cJ0_fill : ByteArray := prog_42_method_104_code
def yJ0_fill : MethodName := ⟨RJ0, "fill", "([IIII)V"⟩
def dkwJ0_fill_1 : List UInt8 := [167, 255, 242, 177]
abbrev dktJ0_fill_1 : List UInt8 := dkwJ0_fill_1 ++ []
def dkwJ0_fill_0 : List UInt8 := [42, 190, 27, 28, 184, 0, 13, 27, 54, 4, 21, 4, 28, 162, 0, 14, 42, 21, 4, 29, 79, 132, 4, 1]
abbrev dktJ0_fill_0 : List UInt8 := dkwJ0_fill_0 ++ dktJ0_fill_1
theorem dksJ0_fill_0 : cJ0_fill.data.toList.drop 0 = dktJ0_fill_0 := by decide +kernel
theorem dksJ0_fill_1 : cJ0_fill.data.toList.drop 24 = dktJ0_fill_1 := dk_seg dksJ0_fill_0 24 rfl rfl
theorem dJ0_fill_0 : decode cJ0_fill 0 = .ok (.aload_n 0, 1) := dk_42 (dk_at dksJ0_fill_0 0 rfl rfl)
theorem dJ0_fill_1 : decode cJ0_fill 1 = .ok (.arraylength, 1) := dk_190 (dk_at dksJ0_fill_0 1 rfl rfl)
theorem dJ0_fill_2 : decode cJ0_fill 2 = .ok (.iload_n 1, 1) := dk_27 (dk_at dksJ0_fill_0 2 rfl rfl)
theorem dJ0_fill_3 : decode cJ0_fill 3 = .ok (.iload_n 2, 1) := dk_28 (dk_at dksJ0_fill_0 3 rfl rfl)
theorem dJ0_fill_4 : decode cJ0_fill 4 = .ok (.invokestatic 13, 3) := dk_184 0 13 (dk_at dksJ0_fill_0 4 rfl rfl)
theorem dJ0_fill_7 : decode cJ0_fill 7 = .ok (.iload_n 1, 1) := dk_27 (dk_at dksJ0_fill_0 7 rfl rfl)
theorem dJ0_fill_8 : decode cJ0_fill 8 = .ok (.istore 4, 2) := dk_54 4 (dk_at dksJ0_fill_0 8 rfl rfl)
theorem dJ0_fill_10 : decode cJ0_fill 10 = .ok (.iload 4, 2) := dk_21 4 (dk_at dksJ0_fill_0 10 rfl rfl)
theorem dJ0_fill_12 : decode cJ0_fill 12 = .ok (.iload_n 2, 1) := dk_28 (dk_at dksJ0_fill_0 12 rfl rfl)
theorem dJ0_fill_13 : decode cJ0_fill 13 = .ok (.if_icmp .ge 14, 3) := dk_162 0 14 (dk_at dksJ0_fill_0 13 rfl rfl)
theorem dJ0_fill_16 : decode cJ0_fill 16 = .ok (.aload_n 0, 1) := dk_42 (dk_at dksJ0_fill_0 16 rfl rfl)
theorem dJ0_fill_17 : decode cJ0_fill 17 = .ok (.iload 4, 2) := dk_21 4 (dk_at dksJ0_fill_0 17 rfl rfl)
theorem dJ0_fill_19 : decode cJ0_fill 19 = .ok (.iload_n 3, 1) := dk_29 (dk_at dksJ0_fill_0 19 rfl rfl)
theorem dJ0_fill_20 : decode cJ0_fill 20 = .ok (.iastore, 1) := dk_79 (dk_at dksJ0_fill_0 20 rfl rfl)
theorem dJ0_fill_21 : decode cJ0_fill 21 = .ok (.iinc 4 1, 3) := dk_132 4 1 (dk_at dksJ0_fill_0 21 rfl rfl)
theorem dJ0_fill_24 : decode cJ0_fill 24 = .ok (.goto (-14), 3) := dk_167 255 242 (dk_at dksJ0_fill_1 0 rfl rfl)
theorem dJ0_fill_27 : decode cJ0_fill 27 = .ok (.return_, 1) := dk_177 (dk_at dksJ0_fill_1 3 rfl rfl)
abbrev cJ0_rangeCheck : ByteArray := prog_42_method_30_code
def yJ0_rangeCheck : MethodName := ⟨RJ0, "rangeCheck", "(III)V"⟩
def dkwJ0_rangeCheck_3 : List UInt8 := [183, 0, 70, 191, 177]
abbrev dktJ0_rangeCheck_3 : List UInt8 := dkwJ0_rangeCheck_3 ++ []
def dkwJ0_rangeCheck_2 : List UInt8 := [27, 156, 0, 12, 187, 0, 68, 89, 27, 183, 0, 70, 191, 28, 26, 164, 0, 12, 187, 0, 68, 89, 28]
abbrev dktJ0_rangeCheck_2 : List UInt8 := dkwJ0_rangeCheck_2 ++ dktJ0_rangeCheck_3
def dkwJ0_rangeCheck_1 : List UInt8 := [182, 0, 54, 18, 57, 182, 0, 50, 28, 182, 0, 54, 18, 59, 182, 0, 50, 182, 0, 61, 183, 0, 65, 191]
abbrev dktJ0_rangeCheck_1 : List UInt8 := dkwJ0_rangeCheck_1 ++ dktJ0_rangeCheck_2
def dkwJ0_rangeCheck_0 : List UInt8 := [27, 28, 164, 0, 44, 187, 0, 43, 89, 187, 0, 45, 89, 183, 0, 47, 18, 48, 182, 0, 50, 27]
abbrev dktJ0_rangeCheck_0 : List UInt8 := dkwJ0_rangeCheck_0 ++ dktJ0_rangeCheck_1
theorem dksJ0_rangeCheck_0 : cJ0_rangeCheck.data.toList.drop 0 = dktJ0_rangeCheck_0 := by decide +kernel
theorem dksJ0_rangeCheck_1 : cJ0_rangeCheck.data.toList.drop 22 = dktJ0_rangeCheck_1 := dk_seg dksJ0_rangeCheck_0 22 rfl rfl
theorem dksJ0_rangeCheck_2 : cJ0_rangeCheck.data.toList.drop 46 = dktJ0_rangeCheck_2 := dk_seg dksJ0_rangeCheck_1 24 rfl rfl
theorem dksJ0_rangeCheck_3 : cJ0_rangeCheck.data.toList.drop 69 = dktJ0_rangeCheck_3 := dk_seg dksJ0_rangeCheck_2 23 rfl rfl
theorem dJ0_rangeCheck_0 : decode cJ0_rangeCheck 0 = .ok (.iload_n 1, 1) := dk_27 (dk_at dksJ0_rangeCheck_0 0 rfl rfl)
theorem dJ0_rangeCheck_1 : decode cJ0_rangeCheck 1 = .ok (.iload_n 2, 1) := dk_28 (dk_at dksJ0_rangeCheck_0 1 rfl rfl)
theorem dJ0_rangeCheck_2 : decode cJ0_rangeCheck 2 = .ok (.if_icmp .le 44, 3) := dk_164 0 44 (dk_at dksJ0_rangeCheck_0 2 rfl rfl)
theorem dJ0_rangeCheck_5 : decode cJ0_rangeCheck 5 = .ok (.new 43, 3) := dk_187 0 43 (dk_at dksJ0_rangeCheck_0 5 rfl rfl)
theorem dJ0_rangeCheck_8 : decode cJ0_rangeCheck 8 = .ok (.dup, 1) := dk_89 (dk_at dksJ0_rangeCheck_0 8 rfl rfl)
theorem dJ0_rangeCheck_9 : decode cJ0_rangeCheck 9 = .ok (.new 45, 3) := dk_187 0 45 (dk_at dksJ0_rangeCheck_0 9 rfl rfl)
theorem dJ0_rangeCheck_12 : decode cJ0_rangeCheck 12 = .ok (.dup, 1) := dk_89 (dk_at dksJ0_rangeCheck_0 12 rfl rfl)
theorem dJ0_rangeCheck_13 : decode cJ0_rangeCheck 13 = .ok (.invokespecial 47, 3) := dk_183 0 47 (dk_at dksJ0_rangeCheck_0 13 rfl rfl)
theorem dJ0_rangeCheck_16 : decode cJ0_rangeCheck 16 = .ok (.ldc 48, 2) := dk_18 48 (dk_at dksJ0_rangeCheck_0 16 rfl rfl)
theorem dJ0_rangeCheck_18 : decode cJ0_rangeCheck 18 = .ok (.invokevirtual 50, 3) := dk_182 0 50 (dk_at dksJ0_rangeCheck_0 18 rfl rfl)
theorem dJ0_rangeCheck_21 : decode cJ0_rangeCheck 21 = .ok (.iload_n 1, 1) := dk_27 (dk_at dksJ0_rangeCheck_0 21 rfl rfl)
theorem dJ0_rangeCheck_22 : decode cJ0_rangeCheck 22 = .ok (.invokevirtual 54, 3) := dk_182 0 54 (dk_at dksJ0_rangeCheck_1 0 rfl rfl)
theorem dJ0_rangeCheck_25 : decode cJ0_rangeCheck 25 = .ok (.ldc 57, 2) := dk_18 57 (dk_at dksJ0_rangeCheck_1 3 rfl rfl)
theorem dJ0_rangeCheck_27 : decode cJ0_rangeCheck 27 = .ok (.invokevirtual 50, 3) := dk_182 0 50 (dk_at dksJ0_rangeCheck_1 5 rfl rfl)
theorem dJ0_rangeCheck_30 : decode cJ0_rangeCheck 30 = .ok (.iload_n 2, 1) := dk_28 (dk_at dksJ0_rangeCheck_1 8 rfl rfl)
theorem dJ0_rangeCheck_31 : decode cJ0_rangeCheck 31 = .ok (.invokevirtual 54, 3) := dk_182 0 54 (dk_at dksJ0_rangeCheck_1 9 rfl rfl)
theorem dJ0_rangeCheck_34 : decode cJ0_rangeCheck 34 = .ok (.ldc 59, 2) := dk_18 59 (dk_at dksJ0_rangeCheck_1 12 rfl rfl)
theorem dJ0_rangeCheck_36 : decode cJ0_rangeCheck 36 = .ok (.invokevirtual 50, 3) := dk_182 0 50 (dk_at dksJ0_rangeCheck_1 14 rfl rfl)
theorem dJ0_rangeCheck_39 : decode cJ0_rangeCheck 39 = .ok (.invokevirtual 61, 3) := dk_182 0 61 (dk_at dksJ0_rangeCheck_1 17 rfl rfl)
theorem dJ0_rangeCheck_42 : decode cJ0_rangeCheck 42 = .ok (.invokespecial 65, 3) := dk_183 0 65 (dk_at dksJ0_rangeCheck_1 20 rfl rfl)
theorem dJ0_rangeCheck_45 : decode cJ0_rangeCheck 45 = .ok (.athrow, 1) := dk_191 (dk_at dksJ0_rangeCheck_1 23 rfl rfl)
theorem dJ0_rangeCheck_46 : decode cJ0_rangeCheck 46 = .ok (.iload_n 1, 1) := dk_27 (dk_at dksJ0_rangeCheck_2 0 rfl rfl)
theorem dJ0_rangeCheck_47 : decode cJ0_rangeCheck 47 = .ok (.ifCond .ge 12, 3) := dk_156 0 12 (dk_at dksJ0_rangeCheck_2 1 rfl rfl)
theorem dJ0_rangeCheck_50 : decode cJ0_rangeCheck 50 = .ok (.new 68, 3) := dk_187 0 68 (dk_at dksJ0_rangeCheck_2 4 rfl rfl)
theorem dJ0_rangeCheck_53 : decode cJ0_rangeCheck 53 = .ok (.dup, 1) := dk_89 (dk_at dksJ0_rangeCheck_2 7 rfl rfl)
theorem dJ0_rangeCheck_54 : decode cJ0_rangeCheck 54 = .ok (.iload_n 1, 1) := dk_27 (dk_at dksJ0_rangeCheck_2 8 rfl rfl)
theorem dJ0_rangeCheck_55 : decode cJ0_rangeCheck 55 = .ok (.invokespecial 70, 3) := dk_183 0 70 (dk_at dksJ0_rangeCheck_2 9 rfl rfl)
theorem dJ0_rangeCheck_58 : decode cJ0_rangeCheck 58 = .ok (.athrow, 1) := dk_191 (dk_at dksJ0_rangeCheck_2 12 rfl rfl)
theorem dJ0_rangeCheck_59 : decode cJ0_rangeCheck 59 = .ok (.iload_n 2, 1) := dk_28 (dk_at dksJ0_rangeCheck_2 13 rfl rfl)
theorem dJ0_rangeCheck_60 : decode cJ0_rangeCheck 60 = .ok (.iload_n 0, 1) := dk_26 (dk_at dksJ0_rangeCheck_2 14 rfl rfl)
theorem dJ0_rangeCheck_61 : decode cJ0_rangeCheck 61 = .ok (.if_icmp .le 12, 3) := dk_164 0 12 (dk_at dksJ0_rangeCheck_2 15 rfl rfl)
theorem dJ0_rangeCheck_64 : decode cJ0_rangeCheck 64 = .ok (.new 68, 3) := dk_187 0 68 (dk_at dksJ0_rangeCheck_2 18 rfl rfl)
theorem dJ0_rangeCheck_67 : decode cJ0_rangeCheck 67 = .ok (.dup, 1) := dk_89 (dk_at dksJ0_rangeCheck_2 21 rfl rfl)
theorem dJ0_rangeCheck_68 : decode cJ0_rangeCheck 68 = .ok (.iload_n 2, 1) := dk_28 (dk_at dksJ0_rangeCheck_2 22 rfl rfl)
theorem dJ0_rangeCheck_69 : decode cJ0_rangeCheck 69 = .ok (.invokespecial 70, 3) := dk_183 0 70 (dk_at dksJ0_rangeCheck_3 0 rfl rfl)
theorem dJ0_rangeCheck_72 : decode cJ0_rangeCheck 72 = .ok (.athrow, 1) := dk_191 (dk_at dksJ0_rangeCheck_3 3 rfl rfl)
theorem dJ0_rangeCheck_73 : decode cJ0_rangeCheck 73 = .ok (.return_, 1) := dk_177 (dk_at dksJ0_rangeCheck_3 4 rfl rfl)
abbrev cJ0_copyOf : ByteArray := prog_42_method_119_code
def yJ0_copyOf : MethodName := ⟨RJ0, "copyOf", "([Ljava/lang/Object;I)[Ljava/lang/Object;"⟩
def dkwJ0_copyOf_0 : List UInt8 := [42, 27, 42, 182, 0, 86, 184, 1, 44, 176]
abbrev dktJ0_copyOf_0 : List UInt8 := dkwJ0_copyOf_0 ++ []
theorem dksJ0_copyOf_0 : cJ0_copyOf.data.toList.drop 0 = dktJ0_copyOf_0 := by decide +kernel
theorem dJ0_copyOf_0 : decode cJ0_copyOf 0 = .ok (.aload_n 0, 1) := dk_42 (dk_at dksJ0_copyOf_0 0 rfl rfl)
theorem dJ0_copyOf_1 : decode cJ0_copyOf 1 = .ok (.iload_n 1, 1) := dk_27 (dk_at dksJ0_copyOf_0 1 rfl rfl)
theorem dJ0_copyOf_2 : decode cJ0_copyOf 2 = .ok (.aload_n 0, 1) := dk_42 (dk_at dksJ0_copyOf_0 2 rfl rfl)
theorem dJ0_copyOf_3 : decode cJ0_copyOf 3 = .ok (.invokevirtual 86, 3) := dk_182 0 86 (dk_at dksJ0_copyOf_0 3 rfl rfl)
theorem dJ0_copyOf_6 : decode cJ0_copyOf 6 = .ok (.invokestatic 300, 3) := dk_184 1 44 (dk_at dksJ0_copyOf_0 6 rfl rfl)
theorem dJ0_copyOf_9 : decode cJ0_copyOf 9 = .ok (.areturn, 1) := dk_176 (dk_at dksJ0_copyOf_0 9 rfl rfl)
abbrev cJ0_copyOf_2 : ByteArray := prog_42_method_120_code
def yJ0_copyOf_2 : MethodName := ⟨RJ0, "copyOf", "([Ljava/lang/Object;ILjava/lang/Class;)[Ljava/lang/Object;"⟩
def dkwJ0_copyOf_2_1 : List UInt8 := [78, 42, 3, 45, 3, 42, 190, 27, 184, 1, 48, 184, 0, 150, 45, 176]
abbrev dktJ0_copyOf_2_1 : List UInt8 := dkwJ0_copyOf_2_1 ++ []
def dkwJ0_copyOf_2_0 : List UInt8 := [44, 18, 110, 166, 0, 10, 27, 189, 0, 2, 167, 0, 14, 44, 182, 0, 90, 27, 184, 0, 95, 192, 0, 110]
abbrev dktJ0_copyOf_2_0 : List UInt8 := dkwJ0_copyOf_2_0 ++ dktJ0_copyOf_2_1
theorem dksJ0_copyOf_2_0 : cJ0_copyOf_2.data.toList.drop 0 = dktJ0_copyOf_2_0 := by decide +kernel
theorem dksJ0_copyOf_2_1 : cJ0_copyOf_2.data.toList.drop 24 = dktJ0_copyOf_2_1 := dk_seg dksJ0_copyOf_2_0 24 rfl rfl
theorem dJ0_copyOf_2_0 : decode cJ0_copyOf_2 0 = .ok (.aload_n 2, 1) := dk_44 (dk_at dksJ0_copyOf_2_0 0 rfl rfl)
theorem dJ0_copyOf_2_1 : decode cJ0_copyOf_2 1 = .ok (.ldc 110, 2) := dk_18 110 (dk_at dksJ0_copyOf_2_0 1 rfl rfl)
theorem dJ0_copyOf_2_3 : decode cJ0_copyOf_2 3 = .ok (.if_acmp .ne 10, 3) := dk_166 0 10 (dk_at dksJ0_copyOf_2_0 3 rfl rfl)
theorem dJ0_copyOf_2_6 : decode cJ0_copyOf_2 6 = .ok (.iload_n 1, 1) := dk_27 (dk_at dksJ0_copyOf_2_0 6 rfl rfl)
theorem dJ0_copyOf_2_7 : decode cJ0_copyOf_2 7 = .ok (.anewarray 2, 3) := dk_189 0 2 (dk_at dksJ0_copyOf_2_0 7 rfl rfl)
theorem dJ0_copyOf_2_10 : decode cJ0_copyOf_2 10 = .ok (.goto 14, 3) := dk_167 0 14 (dk_at dksJ0_copyOf_2_0 10 rfl rfl)
theorem dJ0_copyOf_2_13 : decode cJ0_copyOf_2 13 = .ok (.aload_n 2, 1) := dk_44 (dk_at dksJ0_copyOf_2_0 13 rfl rfl)
theorem dJ0_copyOf_2_14 : decode cJ0_copyOf_2 14 = .ok (.invokevirtual 90, 3) := dk_182 0 90 (dk_at dksJ0_copyOf_2_0 14 rfl rfl)
theorem dJ0_copyOf_2_17 : decode cJ0_copyOf_2 17 = .ok (.iload_n 1, 1) := dk_27 (dk_at dksJ0_copyOf_2_0 17 rfl rfl)
theorem dJ0_copyOf_2_18 : decode cJ0_copyOf_2 18 = .ok (.invokestatic 95, 3) := dk_184 0 95 (dk_at dksJ0_copyOf_2_0 18 rfl rfl)
theorem dJ0_copyOf_2_21 : decode cJ0_copyOf_2 21 = .ok (.checkcast 110, 3) := dk_192 0 110 (dk_at dksJ0_copyOf_2_0 21 rfl rfl)
theorem dJ0_copyOf_2_24 : decode cJ0_copyOf_2 24 = .ok (.astore_n 3, 1) := dk_78 (dk_at dksJ0_copyOf_2_1 0 rfl rfl)
theorem dJ0_copyOf_2_25 : decode cJ0_copyOf_2 25 = .ok (.aload_n 0, 1) := dk_42 (dk_at dksJ0_copyOf_2_1 1 rfl rfl)
theorem dJ0_copyOf_2_26 : decode cJ0_copyOf_2 26 = .ok (.iconst 0, 1) := dk_3 (dk_at dksJ0_copyOf_2_1 2 rfl rfl)
theorem dJ0_copyOf_2_27 : decode cJ0_copyOf_2 27 = .ok (.aload_n 3, 1) := dk_45 (dk_at dksJ0_copyOf_2_1 3 rfl rfl)
theorem dJ0_copyOf_2_28 : decode cJ0_copyOf_2 28 = .ok (.iconst 0, 1) := dk_3 (dk_at dksJ0_copyOf_2_1 4 rfl rfl)
theorem dJ0_copyOf_2_29 : decode cJ0_copyOf_2 29 = .ok (.aload_n 0, 1) := dk_42 (dk_at dksJ0_copyOf_2_1 5 rfl rfl)
theorem dJ0_copyOf_2_30 : decode cJ0_copyOf_2 30 = .ok (.arraylength, 1) := dk_190 (dk_at dksJ0_copyOf_2_1 6 rfl rfl)
theorem dJ0_copyOf_2_31 : decode cJ0_copyOf_2 31 = .ok (.iload_n 1, 1) := dk_27 (dk_at dksJ0_copyOf_2_1 7 rfl rfl)
theorem dJ0_copyOf_2_32 : decode cJ0_copyOf_2 32 = .ok (.invokestatic 304, 3) := dk_184 1 48 (dk_at dksJ0_copyOf_2_1 8 rfl rfl)
theorem dJ0_copyOf_2_35 : decode cJ0_copyOf_2 35 = .ok (.invokestatic 150, 3) := dk_184 0 150 (dk_at dksJ0_copyOf_2_1 11 rfl rfl)
theorem dJ0_copyOf_2_38 : decode cJ0_copyOf_2 38 = .ok (.aload_n 3, 1) := dk_45 (dk_at dksJ0_copyOf_2_1 14 rfl rfl)
theorem dJ0_copyOf_2_39 : decode cJ0_copyOf_2 39 = .ok (.areturn, 1) := dk_176 (dk_at dksJ0_copyOf_2_1 15 rfl rfl)
theorem q123 : (Jvm.Cond.initialized "java/util/Arrays") ∈ lw_all := lw_g (lw_at lw_m1 3 rfl) rfl
theorem q175 : (Jvm.Cond.static ({ cls := "java/util/Arrays", name := "fill", desc := "([IIII)V" } : Jvm.MethodName)) ∈ lw_all := lw_g (lw_at lw_m1 55 rfl) rfl
theorem q176 : (Jvm.Cond.code ({ cls := "java/util/Arrays", name := "fill", desc := "([IIII)V" } : Jvm.MethodName) prog_42_method_104_code (5 : Nat) (Option.none : Option Jvm.ClassFile.FieldType)) ∈ lw_all := lw_g (lw_at lw_m1 56 rfl) rfl
theorem q177 : (Jvm.Cond.methodLink "java/util/Arrays" (13 : Nat) ({ cls := "java/util/Arrays", name := "rangeCheck", desc := "(III)V" } : Jvm.MethodName)) ∈ lw_all := lw_g (lw_at lw_m1 57 rfl) rfl
theorem q178 : (Jvm.Cond.static ({ cls := "java/util/Arrays", name := "rangeCheck", desc := "(III)V" } : Jvm.MethodName)) ∈ lw_all := lw_g (lw_at lw_m1 58 rfl) rfl
theorem q179 : (Jvm.Cond.code ({ cls := "java/util/Arrays", name := "rangeCheck", desc := "(III)V" } : Jvm.MethodName) prog_42_method_30_code (3 : Nat) (Option.none : Option Jvm.ClassFile.FieldType)) ∈ lw_all := lw_g (lw_at lw_m1 59 rfl) rfl
theorem q632 : (Jvm.Cond.static ({ cls := "java/util/Arrays", name := "copyOf", desc := "([Ljava/lang/Object;I)[Ljava/lang/Object;" } : Jvm.MethodName)) ∈ lw_all := lw_g (lw_at lw_m3 32 rfl) rfl
theorem q633 : (Jvm.Cond.code ({ cls := "java/util/Arrays", name := "copyOf", desc := "([Ljava/lang/Object;I)[Ljava/lang/Object;" } : Jvm.MethodName) prog_42_method_119_code (2 : Nat) (Option.some (Jvm.ClassFile.FieldType.array (Jvm.ClassFile.FieldType.object "java/lang/Object")))) ∈ lw_all := lw_g (lw_at lw_m3 33 rfl) rfl
theorem q634 : (Jvm.Cond.methodLink "java/util/Arrays" (86 : Nat) ({ cls := "java/lang/Object", name := "getClass", desc := "()Ljava/lang/Class;" } : Jvm.MethodName)) ∈ lw_all := lw_g (lw_at lw_m3 34 rfl) rfl
theorem q657 : (Jvm.Cond.methodLink "java/util/Arrays" (300 : Nat) ({ cls := "java/util/Arrays", name := "copyOf", desc := "([Ljava/lang/Object;ILjava/lang/Class;)[Ljava/lang/Object;" } : Jvm.MethodName)) ∈ lw_all := lw_g (lw_at lw_m3 57 rfl) rfl
theorem q658 : (Jvm.Cond.static ({ cls := "java/util/Arrays", name := "copyOf", desc := "([Ljava/lang/Object;ILjava/lang/Class;)[Ljava/lang/Object;" } : Jvm.MethodName)) ∈ lw_all := lw_g (lw_at lw_m3 58 rfl) rfl
theorem q659 : (Jvm.Cond.code ({ cls := "java/util/Arrays", name := "copyOf", desc := "([Ljava/lang/Object;ILjava/lang/Class;)[Ljava/lang/Object;" } : Jvm.MethodName) prog_42_method_120_code (4 : Nat) (Option.some (Jvm.ClassFile.FieldType.array (Jvm.ClassFile.FieldType.object "java/lang/Object")))) ∈ lw_all := lw_g (lw_at lw_m3 59 rfl) rfl
theorem q660 : (Jvm.Cond.classLink "java/util/Arrays" (110 : Nat) "[Ljava/lang/Object;") ∈ lw_all := lw_g (lw_at lw_m3 60 rfl) rfl
theorem q662 : (Jvm.Cond.classLink "java/util/Arrays" (2 : Nat) "java/lang/Object") ∈ lw_all := lw_g (lw_at lw_m3 62 rfl) rfl
theorem q663 : (Jvm.Cond.methodLink "java/util/Arrays" (304 : Nat) ({ cls := "java/lang/Math", name := "min", desc := "(II)I" } : Jvm.MethodName)) ∈ lw_all := lw_g (lw_at lw_m3 63 rfl) rfl
theorem q664 : (Jvm.Cond.methodLink "java/util/Arrays" (150 : Nat) ({ cls := "java/lang/System", name := "arraycopy", desc := "(Ljava/lang/Object;ILjava/lang/Object;II)V" } : Jvm.MethodName)) ∈ lw_all := lw_g (lw_at lw_m3 64 rfl) rfl
/-! java/util/AbstractCollection -/
set_option maxRecDepth 100000
def RJ1 : String := "java/util/AbstractCollection"
abbrev cJ1_init : ByteArray := prog_39_method_1_code
def yJ1_init : MethodName := ⟨RJ1, "<init>", "()V"⟩
theorem dJ1_init_0 : decode cJ1_init 0 = .ok (.aload_n 0, 1) := by decide +kernel
theorem dJ1_init_1 : decode cJ1_init 1 = .ok (.invokespecial 1, 3) := by decide +kernel
theorem dJ1_init_4 : decode cJ1_init 4 = .ok (.return_, 1) := by decide +kernel
theorem q128 : (Jvm.Cond.initialized "java/util/AbstractCollection") ∈ lw_all := lw_g (lw_at lw_m1 8 rfl) rfl
theorem q358 : (Jvm.Cond.instanceMethod ({ cls := "java/util/AbstractCollection", name := "<init>", desc := "()V" } : Jvm.MethodName)) ∈ lw_all := lw_g (lw_at lw_m1 238 rfl) rfl
theorem q359 : (Jvm.Cond.code ({ cls := "java/util/AbstractCollection", name := "<init>", desc := "()V" } : Jvm.MethodName) prog_39_method_1_code (1 : Nat) (Option.none : Option Jvm.ClassFile.FieldType)) ∈ lw_all := lw_g (lw_at lw_m1 239 rfl) rfl
theorem q360 : (Jvm.Cond.methodLink "java/util/AbstractCollection" (1 : Nat) ({ cls := "java/lang/Object", name := "<init>", desc := "()V" } : Jvm.MethodName)) ∈ lw_all := lw_g (lw_at lw_m2 0 rfl) rfl
/-! java/util/AbstractList -/
set_option maxRecDepth 100000
def RJ2 : String := "java/util/AbstractList"
abbrev cJ2_init : ByteArray := prog_40_method_1_code
def yJ2_init : MethodName := ⟨RJ2, "<init>", "()V"⟩
def dkwJ2_init_0 : List UInt8 := [42, 183, 0, 1, 42, 3, 181, 0, 7, 177]
abbrev dktJ2_init_0 : List UInt8 := dkwJ2_init_0 ++ []
theorem dksJ2_init_0 : cJ2_init.data.toList.drop 0 = dktJ2_init_0 := by decide +kernel
theorem dJ2_init_0 : decode cJ2_init 0 = .ok (.aload_n 0, 1) := dk_42 (dk_at dksJ2_init_0 0 rfl rfl)
theorem dJ2_init_1 : decode cJ2_init 1 = .ok (.invokespecial 1, 3) := dk_183 0 1 (dk_at dksJ2_init_0 1 rfl rfl)
theorem dJ2_init_4 : decode cJ2_init 4 = .ok (.aload_n 0, 1) := dk_42 (dk_at dksJ2_init_0 4 rfl rfl)
theorem dJ2_init_5 : decode cJ2_init 5 = .ok (.iconst 0, 1) := dk_3 (dk_at dksJ2_init_0 5 rfl rfl)
theorem dJ2_init_6 : decode cJ2_init 6 = .ok (.putfield 7, 3) := dk_181 0 7 (dk_at dksJ2_init_0 6 rfl rfl)
theorem dJ2_init_9 : decode cJ2_init 9 = .ok (.return_, 1) := dk_177 (dk_at dksJ2_init_0 9 rfl rfl)
theorem q129 : (Jvm.Cond.initialized "java/util/AbstractList") ∈ lw_all := lw_g (lw_at lw_m1 9 rfl) rfl
theorem q355 : (Jvm.Cond.instanceMethod ({ cls := "java/util/AbstractList", name := "<init>", desc := "()V" } : Jvm.MethodName)) ∈ lw_all := lw_g (lw_at lw_m1 235 rfl) rfl
theorem q356 : (Jvm.Cond.code ({ cls := "java/util/AbstractList", name := "<init>", desc := "()V" } : Jvm.MethodName) prog_40_method_1_code (1 : Nat) (Option.none : Option Jvm.ClassFile.FieldType)) ∈ lw_all := lw_g (lw_at lw_m1 236 rfl) rfl
theorem q357 : (Jvm.Cond.methodLink "java/util/AbstractList" (1 : Nat) ({ cls := "java/util/AbstractCollection", name := "<init>", desc := "()V" } : Jvm.MethodName)) ∈ lw_all := lw_g (lw_at lw_m1 237 rfl) rfl
theorem q365 : (Jvm.Cond.fieldLink "java/util/AbstractList" (7 : Nat) "java/util/AbstractList" "modCount" "I") ∈ lw_all := lw_g (lw_at lw_m2 5 rfl) rfl
theorem q373 : (Jvm.Cond.soleField "java/util/AbstractList" "modCount") ∈ lw_all := lw_g (lw_at lw_m2 13 rfl) rfl
/-! java/util/ArrayList -/
set_option maxRecDepth 100000
def RJ3 : String := "java/util/ArrayList"
def TJ3 : u_T := fun k => match k with
  | 0 => ("java/util/AbstractList", "modCount", "I", false)
  | 1 => ("java/util/ArrayList", "elementData", "[Ljava/lang/Object;", false)
  | _ => ("java/util/ArrayList", "size", "I", false)
def tyJ3 : Nat → FieldType := fun k => match k with
  | 0 => .int
  | 1 => .array (.object "java/lang/Object")
  | _ => .int
abbrev wsJ30 : List Cond := u_ws RJ3 TJ3 3
theorem nmJ3 : ∀ a, a < 3 → ∀ b, b < 3 → a ≠ b → (TJ3 a).2.1 ≠ (TJ3 b).2.1 := by decide +kernel
theorem tyJ3_ok : ∀ k, k < 3 → parseFieldDescriptor (TJ3 k).2.2.1 = some (tyJ3 k) := by decide +kernel
abbrev cJ3_init : ByteArray := prog_41_method_2_code
def yJ3_init : MethodName := ⟨RJ3, "<init>", "()V"⟩
def dkwJ3_init_0 : List UInt8 := [42, 183, 0, 1, 42, 178, 0, 39, 181, 0, 9, 177]
abbrev dktJ3_init_0 : List UInt8 := dkwJ3_init_0 ++ []
theorem dksJ3_init_0 : cJ3_init.data.toList.drop 0 = dktJ3_init_0 := by decide +kernel
theorem dJ3_init_0 : decode cJ3_init 0 = .ok (.aload_n 0, 1) := dk_42 (dk_at dksJ3_init_0 0 rfl rfl)
theorem dJ3_init_1 : decode cJ3_init 1 = .ok (.invokespecial 1, 3) := dk_183 0 1 (dk_at dksJ3_init_0 1 rfl rfl)
theorem dJ3_init_4 : decode cJ3_init 4 = .ok (.aload_n 0, 1) := dk_42 (dk_at dksJ3_init_0 4 rfl rfl)
theorem dJ3_init_5 : decode cJ3_init 5 = .ok (.getstatic 39, 3) := dk_178 0 39 (dk_at dksJ3_init_0 5 rfl rfl)
theorem dJ3_init_8 : decode cJ3_init 8 = .ok (.putfield 9, 3) := dk_181 0 9 (dk_at dksJ3_init_0 8 rfl rfl)
theorem dJ3_init_11 : decode cJ3_init 11 = .ok (.return_, 1) := dk_177 (dk_at dksJ3_init_0 11 rfl rfl)
abbrev cJ3_add : ByteArray := prog_41_method_25_code
def yJ3_add : MethodName := ⟨RJ3, "add", "(Ljava/lang/Object;)Z"⟩
def dkwJ3_add_1 : List UInt8 := [172]
abbrev dktJ3_add_1 : List UInt8 := dkwJ3_add_1 ++ []
def dkwJ3_add_0 : List UInt8 := [42, 89, 180, 0, 63, 4, 96, 181, 0, 63, 42, 43, 42, 180, 0, 9, 42, 180, 0, 48, 182, 0, 131, 4]
abbrev dktJ3_add_0 : List UInt8 := dkwJ3_add_0 ++ dktJ3_add_1
theorem dksJ3_add_0 : cJ3_add.data.toList.drop 0 = dktJ3_add_0 := by decide +kernel
theorem dksJ3_add_1 : cJ3_add.data.toList.drop 24 = dktJ3_add_1 := dk_seg dksJ3_add_0 24 rfl rfl
theorem dJ3_add_0 : decode cJ3_add 0 = .ok (.aload_n 0, 1) := dk_42 (dk_at dksJ3_add_0 0 rfl rfl)
theorem dJ3_add_1 : decode cJ3_add 1 = .ok (.dup, 1) := dk_89 (dk_at dksJ3_add_0 1 rfl rfl)
theorem dJ3_add_2 : decode cJ3_add 2 = .ok (.getfield 63, 3) := dk_180 0 63 (dk_at dksJ3_add_0 2 rfl rfl)
theorem dJ3_add_5 : decode cJ3_add 5 = .ok (.iconst 1, 1) := dk_4 (dk_at dksJ3_add_0 5 rfl rfl)
theorem dJ3_add_6 : decode cJ3_add 6 = .ok (.iadd, 1) := dk_96 (dk_at dksJ3_add_0 6 rfl rfl)
theorem dJ3_add_7 : decode cJ3_add 7 = .ok (.putfield 63, 3) := dk_181 0 63 (dk_at dksJ3_add_0 7 rfl rfl)
theorem dJ3_add_10 : decode cJ3_add 10 = .ok (.aload_n 0, 1) := dk_42 (dk_at dksJ3_add_0 10 rfl rfl)
theorem dJ3_add_11 : decode cJ3_add 11 = .ok (.aload_n 1, 1) := dk_43 (dk_at dksJ3_add_0 11 rfl rfl)
theorem dJ3_add_12 : decode cJ3_add 12 = .ok (.aload_n 0, 1) := dk_42 (dk_at dksJ3_add_0 12 rfl rfl)
theorem dJ3_add_13 : decode cJ3_add 13 = .ok (.getfield 9, 3) := dk_180 0 9 (dk_at dksJ3_add_0 13 rfl rfl)
theorem dJ3_add_16 : decode cJ3_add 16 = .ok (.aload_n 0, 1) := dk_42 (dk_at dksJ3_add_0 16 rfl rfl)
theorem dJ3_add_17 : decode cJ3_add 17 = .ok (.getfield 48, 3) := dk_180 0 48 (dk_at dksJ3_add_0 17 rfl rfl)
theorem dJ3_add_20 : decode cJ3_add 20 = .ok (.invokevirtual 131, 3) := dk_182 0 131 (dk_at dksJ3_add_0 20 rfl rfl)
theorem dJ3_add_23 : decode cJ3_add 23 = .ok (.iconst 1, 1) := dk_4 (dk_at dksJ3_add_0 23 rfl rfl)
theorem dJ3_add_24 : decode cJ3_add 24 = .ok (.ireturn, 1) := dk_172 (dk_at dksJ3_add_1 0 rfl rfl)
abbrev cJ3_add_2 : ByteArray := prog_41_method_24_code
def yJ3_add_2 : MethodName := ⟨RJ3, "add", "(Ljava/lang/Object;[Ljava/lang/Object;I)V"⟩
def dkwJ3_add_2_0 : List UInt8 := [29, 44, 190, 160, 0, 8, 42, 182, 0, 129, 77, 44, 29, 43, 83, 42, 29, 4, 96, 181, 0, 48, 177]
abbrev dktJ3_add_2_0 : List UInt8 := dkwJ3_add_2_0 ++ []
theorem dksJ3_add_2_0 : cJ3_add_2.data.toList.drop 0 = dktJ3_add_2_0 := by decide +kernel
theorem dJ3_add_2_0 : decode cJ3_add_2 0 = .ok (.iload_n 3, 1) := dk_29 (dk_at dksJ3_add_2_0 0 rfl rfl)
theorem dJ3_add_2_1 : decode cJ3_add_2 1 = .ok (.aload_n 2, 1) := dk_44 (dk_at dksJ3_add_2_0 1 rfl rfl)
theorem dJ3_add_2_2 : decode cJ3_add_2 2 = .ok (.arraylength, 1) := dk_190 (dk_at dksJ3_add_2_0 2 rfl rfl)
theorem dJ3_add_2_3 : decode cJ3_add_2 3 = .ok (.if_icmp .ne 8, 3) := dk_160 0 8 (dk_at dksJ3_add_2_0 3 rfl rfl)
theorem dJ3_add_2_6 : decode cJ3_add_2 6 = .ok (.aload_n 0, 1) := dk_42 (dk_at dksJ3_add_2_0 6 rfl rfl)
theorem dJ3_add_2_7 : decode cJ3_add_2 7 = .ok (.invokevirtual 129, 3) := dk_182 0 129 (dk_at dksJ3_add_2_0 7 rfl rfl)
theorem dJ3_add_2_10 : decode cJ3_add_2 10 = .ok (.astore_n 2, 1) := dk_77 (dk_at dksJ3_add_2_0 10 rfl rfl)
theorem dJ3_add_2_11 : decode cJ3_add_2 11 = .ok (.aload_n 2, 1) := dk_44 (dk_at dksJ3_add_2_0 11 rfl rfl)
theorem dJ3_add_2_12 : decode cJ3_add_2 12 = .ok (.iload_n 3, 1) := dk_29 (dk_at dksJ3_add_2_0 12 rfl rfl)
theorem dJ3_add_2_13 : decode cJ3_add_2 13 = .ok (.aload_n 1, 1) := dk_43 (dk_at dksJ3_add_2_0 13 rfl rfl)
theorem dJ3_add_2_14 : decode cJ3_add_2 14 = .ok (.aastore, 1) := dk_83 (dk_at dksJ3_add_2_0 14 rfl rfl)
theorem dJ3_add_2_15 : decode cJ3_add_2 15 = .ok (.aload_n 0, 1) := dk_42 (dk_at dksJ3_add_2_0 15 rfl rfl)
theorem dJ3_add_2_16 : decode cJ3_add_2 16 = .ok (.iload_n 3, 1) := dk_29 (dk_at dksJ3_add_2_0 16 rfl rfl)
theorem dJ3_add_2_17 : decode cJ3_add_2 17 = .ok (.iconst 1, 1) := dk_4 (dk_at dksJ3_add_2_0 17 rfl rfl)
theorem dJ3_add_2_18 : decode cJ3_add_2 18 = .ok (.iadd, 1) := dk_96 (dk_at dksJ3_add_2_0 18 rfl rfl)
theorem dJ3_add_2_19 : decode cJ3_add_2 19 = .ok (.putfield 48, 3) := dk_181 0 48 (dk_at dksJ3_add_2_0 19 rfl rfl)
theorem dJ3_add_2_22 : decode cJ3_add_2 22 = .ok (.return_, 1) := dk_177 (dk_at dksJ3_add_2_0 22 rfl rfl)
abbrev cJ3_grow : ByteArray := prog_41_method_7_code
def yJ3_grow : MethodName := ⟨RJ3, "grow", "()[Ljava/lang/Object;"⟩
def dkwJ3_grow_0 : List UInt8 := [42, 42, 180, 0, 48, 4, 96, 182, 0, 69, 176]
abbrev dktJ3_grow_0 : List UInt8 := dkwJ3_grow_0 ++ []
theorem dksJ3_grow_0 : cJ3_grow.data.toList.drop 0 = dktJ3_grow_0 := by decide +kernel
theorem dJ3_grow_0 : decode cJ3_grow 0 = .ok (.aload_n 0, 1) := dk_42 (dk_at dksJ3_grow_0 0 rfl rfl)
theorem dJ3_grow_1 : decode cJ3_grow 1 = .ok (.aload_n 0, 1) := dk_42 (dk_at dksJ3_grow_0 1 rfl rfl)
theorem dJ3_grow_2 : decode cJ3_grow 2 = .ok (.getfield 48, 3) := dk_180 0 48 (dk_at dksJ3_grow_0 2 rfl rfl)
theorem dJ3_grow_5 : decode cJ3_grow 5 = .ok (.iconst 1, 1) := dk_4 (dk_at dksJ3_grow_0 5 rfl rfl)
theorem dJ3_grow_6 : decode cJ3_grow 6 = .ok (.iadd, 1) := dk_96 (dk_at dksJ3_grow_0 6 rfl rfl)
theorem dJ3_grow_7 : decode cJ3_grow 7 = .ok (.invokevirtual 69, 3) := dk_182 0 69 (dk_at dksJ3_grow_0 7 rfl rfl)
theorem dJ3_grow_10 : decode cJ3_grow 10 = .ok (.areturn, 1) := dk_176 (dk_at dksJ3_grow_0 10 rfl rfl)
abbrev cJ3_grow_2 : ByteArray := prog_41_method_6_code
def yJ3_grow_2 : MethodName := ⟨RJ3, "grow", "(I)[Ljava/lang/Object;"⟩
def dkwJ3_grow_2_2 : List UInt8 := [27, 184, 0, 79, 189, 0, 7, 90, 181, 0, 9, 176]
abbrev dktJ3_grow_2_2 : List UInt8 := dkwJ3_grow_2_2 ++ []
def dkwJ3_grow_2_1 : List UInt8 := [28, 4, 122, 184, 0, 73, 62, 42, 42, 180, 0, 9, 29, 184, 0, 66, 90, 181, 0, 9, 176, 42, 16, 10]
abbrev dktJ3_grow_2_1 : List UInt8 := dkwJ3_grow_2_1 ++ dktJ3_grow_2_2
def dkwJ3_grow_2_0 : List UInt8 := [42, 180, 0, 9, 190, 61, 28, 157, 0, 13, 42, 180, 0, 9, 178, 0, 39, 165, 0, 28, 28, 27, 28, 100]
abbrev dktJ3_grow_2_0 : List UInt8 := dkwJ3_grow_2_0 ++ dktJ3_grow_2_1
theorem dksJ3_grow_2_0 : cJ3_grow_2.data.toList.drop 0 = dktJ3_grow_2_0 := by decide +kernel
theorem dksJ3_grow_2_1 : cJ3_grow_2.data.toList.drop 24 = dktJ3_grow_2_1 := dk_seg dksJ3_grow_2_0 24 rfl rfl
theorem dksJ3_grow_2_2 : cJ3_grow_2.data.toList.drop 48 = dktJ3_grow_2_2 := dk_seg dksJ3_grow_2_1 24 rfl rfl
theorem dJ3_grow_2_0 : decode cJ3_grow_2 0 = .ok (.aload_n 0, 1) := dk_42 (dk_at dksJ3_grow_2_0 0 rfl rfl)
theorem dJ3_grow_2_1 : decode cJ3_grow_2 1 = .ok (.getfield 9, 3) := dk_180 0 9 (dk_at dksJ3_grow_2_0 1 rfl rfl)
theorem dJ3_grow_2_4 : decode cJ3_grow_2 4 = .ok (.arraylength, 1) := dk_190 (dk_at dksJ3_grow_2_0 4 rfl rfl)
theorem dJ3_grow_2_5 : decode cJ3_grow_2 5 = .ok (.istore_n 2, 1) := dk_61 (dk_at dksJ3_grow_2_0 5 rfl rfl)
theorem dJ3_grow_2_6 : decode cJ3_grow_2 6 = .ok (.iload_n 2, 1) := dk_28 (dk_at dksJ3_grow_2_0 6 rfl rfl)
theorem dJ3_grow_2_7 : decode cJ3_grow_2 7 = .ok (.ifCond .gt 13, 3) := dk_157 0 13 (dk_at dksJ3_grow_2_0 7 rfl rfl)
theorem dJ3_grow_2_10 : decode cJ3_grow_2 10 = .ok (.aload_n 0, 1) := dk_42 (dk_at dksJ3_grow_2_0 10 rfl rfl)
theorem dJ3_grow_2_11 : decode cJ3_grow_2 11 = .ok (.getfield 9, 3) := dk_180 0 9 (dk_at dksJ3_grow_2_0 11 rfl rfl)
theorem dJ3_grow_2_14 : decode cJ3_grow_2 14 = .ok (.getstatic 39, 3) := dk_178 0 39 (dk_at dksJ3_grow_2_0 14 rfl rfl)
theorem dJ3_grow_2_17 : decode cJ3_grow_2 17 = .ok (.if_acmp .eq 28, 3) := dk_165 0 28 (dk_at dksJ3_grow_2_0 17 rfl rfl)
theorem dJ3_grow_2_20 : decode cJ3_grow_2 20 = .ok (.iload_n 2, 1) := dk_28 (dk_at dksJ3_grow_2_0 20 rfl rfl)
theorem dJ3_grow_2_21 : decode cJ3_grow_2 21 = .ok (.iload_n 1, 1) := dk_27 (dk_at dksJ3_grow_2_0 21 rfl rfl)
theorem dJ3_grow_2_22 : decode cJ3_grow_2 22 = .ok (.iload_n 2, 1) := dk_28 (dk_at dksJ3_grow_2_0 22 rfl rfl)
theorem dJ3_grow_2_23 : decode cJ3_grow_2 23 = .ok (.isub, 1) := dk_100 (dk_at dksJ3_grow_2_0 23 rfl rfl)
theorem dJ3_grow_2_24 : decode cJ3_grow_2 24 = .ok (.iload_n 2, 1) := dk_28 (dk_at dksJ3_grow_2_1 0 rfl rfl)
theorem dJ3_grow_2_25 : decode cJ3_grow_2 25 = .ok (.iconst 1, 1) := dk_4 (dk_at dksJ3_grow_2_1 1 rfl rfl)
theorem dJ3_grow_2_26 : decode cJ3_grow_2 26 = .ok (.ishr, 1) := dk_122 (dk_at dksJ3_grow_2_1 2 rfl rfl)
theorem dJ3_grow_2_27 : decode cJ3_grow_2 27 = .ok (.invokestatic 73, 3) := dk_184 0 73 (dk_at dksJ3_grow_2_1 3 rfl rfl)
theorem dJ3_grow_2_30 : decode cJ3_grow_2 30 = .ok (.istore_n 3, 1) := dk_62 (dk_at dksJ3_grow_2_1 6 rfl rfl)
theorem dJ3_grow_2_31 : decode cJ3_grow_2 31 = .ok (.aload_n 0, 1) := dk_42 (dk_at dksJ3_grow_2_1 7 rfl rfl)
theorem dJ3_grow_2_32 : decode cJ3_grow_2 32 = .ok (.aload_n 0, 1) := dk_42 (dk_at dksJ3_grow_2_1 8 rfl rfl)
theorem dJ3_grow_2_33 : decode cJ3_grow_2 33 = .ok (.getfield 9, 3) := dk_180 0 9 (dk_at dksJ3_grow_2_1 9 rfl rfl)
theorem dJ3_grow_2_36 : decode cJ3_grow_2 36 = .ok (.iload_n 3, 1) := dk_29 (dk_at dksJ3_grow_2_1 12 rfl rfl)
theorem dJ3_grow_2_37 : decode cJ3_grow_2 37 = .ok (.invokestatic 66, 3) := dk_184 0 66 (dk_at dksJ3_grow_2_1 13 rfl rfl)
theorem dJ3_grow_2_40 : decode cJ3_grow_2 40 = .ok (.dup_x1, 1) := dk_90 (dk_at dksJ3_grow_2_1 16 rfl rfl)
theorem dJ3_grow_2_41 : decode cJ3_grow_2 41 = .ok (.putfield 9, 3) := dk_181 0 9 (dk_at dksJ3_grow_2_1 17 rfl rfl)
theorem dJ3_grow_2_44 : decode cJ3_grow_2 44 = .ok (.areturn, 1) := dk_176 (dk_at dksJ3_grow_2_1 20 rfl rfl)
theorem dJ3_grow_2_45 : decode cJ3_grow_2 45 = .ok (.aload_n 0, 1) := dk_42 (dk_at dksJ3_grow_2_1 21 rfl rfl)
theorem dJ3_grow_2_46 : decode cJ3_grow_2 46 = .ok (.bipush 10, 2) := dk_16 10 (dk_at dksJ3_grow_2_1 22 rfl rfl)
theorem dJ3_grow_2_48 : decode cJ3_grow_2 48 = .ok (.iload_n 1, 1) := dk_27 (dk_at dksJ3_grow_2_2 0 rfl rfl)
theorem dJ3_grow_2_49 : decode cJ3_grow_2 49 = .ok (.invokestatic 79, 3) := dk_184 0 79 (dk_at dksJ3_grow_2_2 1 rfl rfl)
theorem dJ3_grow_2_52 : decode cJ3_grow_2 52 = .ok (.anewarray 7, 3) := dk_189 0 7 (dk_at dksJ3_grow_2_2 4 rfl rfl)
theorem dJ3_grow_2_55 : decode cJ3_grow_2 55 = .ok (.dup_x1, 1) := dk_90 (dk_at dksJ3_grow_2_2 7 rfl rfl)
theorem dJ3_grow_2_56 : decode cJ3_grow_2 56 = .ok (.putfield 9, 3) := dk_181 0 9 (dk_at dksJ3_grow_2_2 8 rfl rfl)
theorem dJ3_grow_2_59 : decode cJ3_grow_2 59 = .ok (.areturn, 1) := dk_176 (dk_at dksJ3_grow_2_2 11 rfl rfl)
abbrev cJ3_size : ByteArray := prog_41_method_8_code
def yJ3_size : MethodName := ⟨RJ3, "size", "()I"⟩
theorem dJ3_size_0 : decode cJ3_size 0 = .ok (.aload_n 0, 1) := by decide +kernel
theorem dJ3_size_1 : decode cJ3_size 1 = .ok (.getfield 48, 3) := by decide +kernel
theorem dJ3_size_4 : decode cJ3_size 4 = .ok (.ireturn, 1) := by decide +kernel
abbrev cJ3_get : ByteArray := prog_41_method_20_code
def yJ3_get : MethodName := ⟨RJ3, "get", "(I)Ljava/lang/Object;"⟩
def dkwJ3_get_0 : List UInt8 := [27, 42, 180, 0, 48, 184, 0, 118, 87, 42, 27, 182, 0, 123, 176]
abbrev dktJ3_get_0 : List UInt8 := dkwJ3_get_0 ++ []
theorem dksJ3_get_0 : cJ3_get.data.toList.drop 0 = dktJ3_get_0 := by decide +kernel
theorem dJ3_get_0 : decode cJ3_get 0 = .ok (.iload_n 1, 1) := dk_27 (dk_at dksJ3_get_0 0 rfl rfl)
theorem dJ3_get_1 : decode cJ3_get 1 = .ok (.aload_n 0, 1) := dk_42 (dk_at dksJ3_get_0 1 rfl rfl)
theorem dJ3_get_2 : decode cJ3_get 2 = .ok (.getfield 48, 3) := dk_180 0 48 (dk_at dksJ3_get_0 2 rfl rfl)
theorem dJ3_get_5 : decode cJ3_get 5 = .ok (.invokestatic 118, 3) := dk_184 0 118 (dk_at dksJ3_get_0 5 rfl rfl)
theorem dJ3_get_8 : decode cJ3_get 8 = .ok (.pop, 1) := dk_87 (dk_at dksJ3_get_0 8 rfl rfl)
theorem dJ3_get_9 : decode cJ3_get 9 = .ok (.aload_n 0, 1) := dk_42 (dk_at dksJ3_get_0 9 rfl rfl)
theorem dJ3_get_10 : decode cJ3_get 10 = .ok (.iload_n 1, 1) := dk_27 (dk_at dksJ3_get_0 10 rfl rfl)
theorem dJ3_get_11 : decode cJ3_get 11 = .ok (.invokevirtual 123, 3) := dk_182 0 123 (dk_at dksJ3_get_0 11 rfl rfl)
theorem dJ3_get_14 : decode cJ3_get 14 = .ok (.areturn, 1) := dk_176 (dk_at dksJ3_get_0 14 rfl rfl)
abbrev cJ3_elementData : ByteArray := prog_41_method_18_code
def yJ3_elementData : MethodName := ⟨RJ3, "elementData", "(I)Ljava/lang/Object;"⟩
def dkwJ3_elementData_0 : List UInt8 := [42, 180, 0, 9, 27, 50, 176]
abbrev dktJ3_elementData_0 : List UInt8 := dkwJ3_elementData_0 ++ []
theorem dksJ3_elementData_0 : cJ3_elementData.data.toList.drop 0 = dktJ3_elementData_0 := by decide +kernel
theorem dJ3_elementData_0 : decode cJ3_elementData 0 = .ok (.aload_n 0, 1) := dk_42 (dk_at dksJ3_elementData_0 0 rfl rfl)
theorem dJ3_elementData_1 : decode cJ3_elementData 1 = .ok (.getfield 9, 3) := dk_180 0 9 (dk_at dksJ3_elementData_0 1 rfl rfl)
theorem dJ3_elementData_4 : decode cJ3_elementData 4 = .ok (.iload_n 1, 1) := dk_27 (dk_at dksJ3_elementData_0 4 rfl rfl)
theorem dJ3_elementData_5 : decode cJ3_elementData 5 = .ok (.aaload, 1) := dk_50 (dk_at dksJ3_elementData_0 5 rfl rfl)
theorem dJ3_elementData_6 : decode cJ3_elementData 6 = .ok (.areturn, 1) := dk_176 (dk_at dksJ3_elementData_0 6 rfl rfl)
abbrev cJ3_isEmpty : ByteArray := prog_41_method_9_code
def yJ3_isEmpty : MethodName := ⟨RJ3, "isEmpty", "()Z"⟩
def dkwJ3_isEmpty_0 : List UInt8 := [42, 180, 0, 48, 154, 0, 7, 4, 167, 0, 4, 3, 172]
abbrev dktJ3_isEmpty_0 : List UInt8 := dkwJ3_isEmpty_0 ++ []
theorem dksJ3_isEmpty_0 : cJ3_isEmpty.data.toList.drop 0 = dktJ3_isEmpty_0 := by decide +kernel
theorem dJ3_isEmpty_0 : decode cJ3_isEmpty 0 = .ok (.aload_n 0, 1) := dk_42 (dk_at dksJ3_isEmpty_0 0 rfl rfl)
theorem dJ3_isEmpty_1 : decode cJ3_isEmpty 1 = .ok (.getfield 48, 3) := dk_180 0 48 (dk_at dksJ3_isEmpty_0 1 rfl rfl)
theorem dJ3_isEmpty_4 : decode cJ3_isEmpty 4 = .ok (.ifCond .ne 7, 3) := dk_154 0 7 (dk_at dksJ3_isEmpty_0 4 rfl rfl)
theorem dJ3_isEmpty_7 : decode cJ3_isEmpty 7 = .ok (.iconst 1, 1) := dk_4 (dk_at dksJ3_isEmpty_0 7 rfl rfl)
theorem dJ3_isEmpty_8 : decode cJ3_isEmpty 8 = .ok (.goto 4, 3) := dk_167 0 4 (dk_at dksJ3_isEmpty_0 8 rfl rfl)
theorem dJ3_isEmpty_11 : decode cJ3_isEmpty 11 = .ok (.iconst 0, 1) := dk_3 (dk_at dksJ3_isEmpty_0 11 rfl rfl)
theorem dJ3_isEmpty_12 : decode cJ3_isEmpty 12 = .ok (.ireturn, 1) := dk_172 (dk_at dksJ3_isEmpty_0 12 rfl rfl)
theorem q130 : (Jvm.Cond.initialized "java/util/ArrayList") ∈ lw_all := lw_g (lw_at lw_m1 10 rfl) rfl
theorem q350 : (Jvm.Cond.instantiable "java/util/ArrayList" (3 : Nat)) ∈ lw_all := lw_g (lw_at lw_m1 230 rfl) rfl
theorem q352 : (Jvm.Cond.instanceMethod ({ cls := "java/util/ArrayList", name := "<init>", desc := "()V" } : Jvm.MethodName)) ∈ lw_all := lw_g (lw_at lw_m1 232 rfl) rfl
theorem q353 : (Jvm.Cond.code ({ cls := "java/util/ArrayList", name := "<init>", desc := "()V" } : Jvm.MethodName) prog_41_method_2_code (1 : Nat) (Option.none : Option Jvm.ClassFile.FieldType)) ∈ lw_all := lw_g (lw_at lw_m1 233 rfl) rfl
theorem q354 : (Jvm.Cond.methodLink "java/util/ArrayList" (1 : Nat) ({ cls := "java/util/AbstractList", name := "<init>", desc := "()V" } : Jvm.MethodName)) ∈ lw_all := lw_g (lw_at lw_m1 234 rfl) rfl
theorem q361 : (Jvm.Cond.fieldLink "java/util/ArrayList" (39 : Nat) "java/util/ArrayList" "DEFAULTCAPACITY_EMPTY_ELEMENTDATA" "[Ljava/lang/Object;") ∈ lw_all := lw_g (lw_at lw_m2 1 rfl) rfl
theorem q362 : (Jvm.Cond.laysStatic "java/util/ArrayList" "DEFAULTCAPACITY_EMPTY_ELEMENTDATA" "[Ljava/lang/Object;") ∈ lw_tbl := lw_at lw_m2 2 rfl
theorem q363 : (Jvm.Cond.fieldLink "java/util/ArrayList" (9 : Nat) "java/util/ArrayList" "elementData" "[Ljava/lang/Object;") ∈ lw_all := lw_g (lw_at lw_m2 3 rfl) rfl
theorem q364 : (Jvm.Cond.fieldLink "java/util/ArrayList" (48 : Nat) "java/util/ArrayList" "size" "I") ∈ lw_all := lw_g (lw_at lw_m2 4 rfl) rfl
theorem q366 : (Jvm.Cond.fieldLink "java/util/ArrayList" (63 : Nat) "java/util/ArrayList" "modCount" "I") ∈ lw_all := lw_g (lw_at lw_m2 6 rfl) rfl
theorem q367 : (Jvm.Cond.sameField "java/util/ArrayList" "java/util/AbstractList" "modCount" "I") ∈ lw_all := lw_g (lw_at lw_m2 7 rfl) rfl
theorem q368 : (Jvm.Cond.lays "java/util/ArrayList" "java/util/ArrayList" "elementData" "[Ljava/lang/Object;") ∈ lw_all := lw_g (lw_at lw_m2 8 rfl) rfl
theorem q369 : (Jvm.Cond.soleField "java/util/ArrayList" "elementData") ∈ lw_all := lw_g (lw_at lw_m2 9 rfl) rfl
theorem q370 : (Jvm.Cond.lays "java/util/ArrayList" "java/util/ArrayList" "size" "I") ∈ lw_all := lw_g (lw_at lw_m2 10 rfl) rfl
theorem q371 : (Jvm.Cond.soleField "java/util/ArrayList" "size") ∈ lw_all := lw_g (lw_at lw_m2 11 rfl) rfl
theorem q372 : (Jvm.Cond.lays "java/util/ArrayList" "java/util/AbstractList" "modCount" "I") ∈ lw_all := lw_g (lw_at lw_m2 12 rfl) rfl
theorem q374 : (Jvm.Cond.superclass "java/util/ArrayList" "java/util/AbstractList") ∈ lw_all := lw_g (lw_at lw_m2 14 rfl) rfl
theorem q606 : (Jvm.Cond.instanceMethod ({ cls := "java/util/ArrayList", name := "add", desc := "(Ljava/lang/Object;)Z" } : Jvm.MethodName)) ∈ lw_all := lw_g (lw_at lw_m3 6 rfl) rfl
theorem q607 : (Jvm.Cond.selects "java/util/ArrayList" ({ cls := "java/util/ArrayList", name := "add", desc := "(Ljava/lang/Object;)Z" } : Jvm.MethodName) ({ cls := "java/util/ArrayList", name := "add", desc := "(Ljava/lang/Object;)Z" } : Jvm.MethodName)) ∈ lw_all := lw_g (lw_at lw_m3 7 rfl) rfl
theorem q608 : (Jvm.Cond.code ({ cls := "java/util/ArrayList", name := "add", desc := "(Ljava/lang/Object;)Z" } : Jvm.MethodName) prog_41_method_25_code (2 : Nat) (Option.some Jvm.ClassFile.FieldType.boolean)) ∈ lw_all := lw_g (lw_at lw_m3 8 rfl) rfl
theorem q609 : (Jvm.Cond.methodLink "java/util/ArrayList" (131 : Nat) ({ cls := "java/util/ArrayList", name := "add", desc := "(Ljava/lang/Object;[Ljava/lang/Object;I)V" } : Jvm.MethodName)) ∈ lw_all := lw_g (lw_at lw_m3 9 rfl) rfl
theorem q610 : (Jvm.Cond.privateMethod ({ cls := "java/util/ArrayList", name := "add", desc := "(Ljava/lang/Object;[Ljava/lang/Object;I)V" } : Jvm.MethodName)) ∈ lw_tbl := lw_at lw_m3 10 rfl
theorem q611 : (Jvm.Cond.instanceMethod ({ cls := "java/util/ArrayList", name := "add", desc := "(Ljava/lang/Object;[Ljava/lang/Object;I)V" } : Jvm.MethodName)) ∈ lw_all := lw_g (lw_at lw_m3 11 rfl) rfl
theorem q612 : (Jvm.Cond.code ({ cls := "java/util/ArrayList", name := "add", desc := "(Ljava/lang/Object;[Ljava/lang/Object;I)V" } : Jvm.MethodName) prog_41_method_24_code (4 : Nat) (Option.none : Option Jvm.ClassFile.FieldType)) ∈ lw_all := lw_g (lw_at lw_m3 12 rfl) rfl
theorem q613 : (Jvm.Cond.methodLink "java/util/ArrayList" (129 : Nat) ({ cls := "java/util/ArrayList", name := "grow", desc := "()[Ljava/lang/Object;" } : Jvm.MethodName)) ∈ lw_all := lw_g (lw_at lw_m3 13 rfl) rfl
theorem q614 : (Jvm.Cond.privateMethod ({ cls := "java/util/ArrayList", name := "grow", desc := "()[Ljava/lang/Object;" } : Jvm.MethodName)) ∈ lw_tbl := lw_at lw_m3 14 rfl
theorem q615 : (Jvm.Cond.instanceMethod ({ cls := "java/util/ArrayList", name := "grow", desc := "()[Ljava/lang/Object;" } : Jvm.MethodName)) ∈ lw_all := lw_g (lw_at lw_m3 15 rfl) rfl
theorem q616 : (Jvm.Cond.code ({ cls := "java/util/ArrayList", name := "grow", desc := "()[Ljava/lang/Object;" } : Jvm.MethodName) prog_41_method_7_code (1 : Nat) (Option.some (Jvm.ClassFile.FieldType.array (Jvm.ClassFile.FieldType.object "java/lang/Object")))) ∈ lw_all := lw_g (lw_at lw_m3 16 rfl) rfl
theorem q617 : (Jvm.Cond.methodLink "java/util/ArrayList" (69 : Nat) ({ cls := "java/util/ArrayList", name := "grow", desc := "(I)[Ljava/lang/Object;" } : Jvm.MethodName)) ∈ lw_all := lw_g (lw_at lw_m3 17 rfl) rfl
theorem q618 : (Jvm.Cond.privateMethod ({ cls := "java/util/ArrayList", name := "grow", desc := "(I)[Ljava/lang/Object;" } : Jvm.MethodName)) ∈ lw_tbl := lw_at lw_m3 18 rfl
theorem q619 : (Jvm.Cond.instanceMethod ({ cls := "java/util/ArrayList", name := "grow", desc := "(I)[Ljava/lang/Object;" } : Jvm.MethodName)) ∈ lw_all := lw_g (lw_at lw_m3 19 rfl) rfl
theorem q620 : (Jvm.Cond.code ({ cls := "java/util/ArrayList", name := "grow", desc := "(I)[Ljava/lang/Object;" } : Jvm.MethodName) prog_41_method_6_code (4 : Nat) (Option.some (Jvm.ClassFile.FieldType.array (Jvm.ClassFile.FieldType.object "java/lang/Object")))) ∈ lw_all := lw_g (lw_at lw_m3 20 rfl) rfl
theorem q621 : (Jvm.Cond.methodLink "java/util/ArrayList" (73 : Nat) ({ cls := "jdk/internal/util/ArraysSupport", name := "newLength", desc := "(III)I" } : Jvm.MethodName)) ∈ lw_all := lw_g (lw_at lw_m3 21 rfl) rfl
theorem q631 : (Jvm.Cond.methodLink "java/util/ArrayList" (66 : Nat) ({ cls := "java/util/Arrays", name := "copyOf", desc := "([Ljava/lang/Object;I)[Ljava/lang/Object;" } : Jvm.MethodName)) ∈ lw_all := lw_g (lw_at lw_m3 31 rfl) rfl
theorem q655 : (Jvm.Cond.selects "java/util/ArrayList" ({ cls := "java/lang/Object", name := "getClass", desc := "()Ljava/lang/Class;" } : Jvm.MethodName) ({ cls := "java/lang/Object", name := "getClass", desc := "()Ljava/lang/Class;" } : Jvm.MethodName)) ∈ lw_all := lw_g (lw_at lw_m3 55 rfl) rfl
theorem q665 : (Jvm.Cond.methodLink "java/util/ArrayList" (79 : Nat) ({ cls := "java/lang/Math", name := "max", desc := "(II)I" } : Jvm.MethodName)) ∈ lw_all := lw_g (lw_at lw_m3 65 rfl) rfl
theorem q666 : (Jvm.Cond.classLink "java/util/ArrayList" (7 : Nat) "java/lang/Object") ∈ lw_all := lw_g (lw_at lw_m3 66 rfl) rfl
theorem q668 : (Jvm.Cond.instanceMethod ({ cls := "java/util/ArrayList", name := "size", desc := "()I" } : Jvm.MethodName)) ∈ lw_all := lw_g (lw_at lw_m3 68 rfl) rfl
theorem q669 : (Jvm.Cond.selects "java/util/ArrayList" ({ cls := "java/util/ArrayList", name := "size", desc := "()I" } : Jvm.MethodName) ({ cls := "java/util/ArrayList", name := "size", desc := "()I" } : Jvm.MethodName)) ∈ lw_all := lw_g (lw_at lw_m3 69 rfl) rfl
theorem q670 : (Jvm.Cond.code ({ cls := "java/util/ArrayList", name := "size", desc := "()I" } : Jvm.MethodName) prog_41_method_8_code (1 : Nat) (Option.some Jvm.ClassFile.FieldType.int)) ∈ lw_all := lw_g (lw_at lw_m3 70 rfl) rfl
theorem q672 : (Jvm.Cond.instanceMethod ({ cls := "java/util/ArrayList", name := "get", desc := "(I)Ljava/lang/Object;" } : Jvm.MethodName)) ∈ lw_all := lw_g (lw_at lw_m3 72 rfl) rfl
theorem q673 : (Jvm.Cond.selects "java/util/ArrayList" ({ cls := "java/util/ArrayList", name := "get", desc := "(I)Ljava/lang/Object;" } : Jvm.MethodName) ({ cls := "java/util/ArrayList", name := "get", desc := "(I)Ljava/lang/Object;" } : Jvm.MethodName)) ∈ lw_all := lw_g (lw_at lw_m3 73 rfl) rfl
theorem q674 : (Jvm.Cond.code ({ cls := "java/util/ArrayList", name := "get", desc := "(I)Ljava/lang/Object;" } : Jvm.MethodName) prog_41_method_20_code (2 : Nat) (Option.some (Jvm.ClassFile.FieldType.object "java/lang/Object"))) ∈ lw_all := lw_g (lw_at lw_m3 74 rfl) rfl
theorem q675 : (Jvm.Cond.methodLink "java/util/ArrayList" (118 : Nat) ({ cls := "java/util/Objects", name := "checkIndex", desc := "(II)I" } : Jvm.MethodName)) ∈ lw_all := lw_g (lw_at lw_m3 75 rfl) rfl
theorem q679 : (Jvm.Cond.methodLink "java/util/ArrayList" (123 : Nat) ({ cls := "java/util/ArrayList", name := "elementData", desc := "(I)Ljava/lang/Object;" } : Jvm.MethodName)) ∈ lw_all := lw_g (lw_at lw_m3 79 rfl) rfl
theorem q680 : (Jvm.Cond.instanceMethod ({ cls := "java/util/ArrayList", name := "elementData", desc := "(I)Ljava/lang/Object;" } : Jvm.MethodName)) ∈ lw_all := lw_g (lw_at lw_m3 80 rfl) rfl
theorem q681 : (Jvm.Cond.selects "java/util/ArrayList" ({ cls := "java/util/ArrayList", name := "elementData", desc := "(I)Ljava/lang/Object;" } : Jvm.MethodName) ({ cls := "java/util/ArrayList", name := "elementData", desc := "(I)Ljava/lang/Object;" } : Jvm.MethodName)) ∈ lw_all := lw_g (lw_at lw_m3 81 rfl) rfl
theorem q682 : (Jvm.Cond.code ({ cls := "java/util/ArrayList", name := "elementData", desc := "(I)Ljava/lang/Object;" } : Jvm.MethodName) prog_41_method_18_code (2 : Nat) (Option.some (Jvm.ClassFile.FieldType.object "java/lang/Object"))) ∈ lw_all := lw_g (lw_at lw_m3 82 rfl) rfl
theorem q820 : (Jvm.Cond.instanceMethod ({ cls := "java/util/ArrayList", name := "isEmpty", desc := "()Z" } : Jvm.MethodName)) ∈ lw_all := lw_g (lw_at lw_m3 220 rfl) rfl
theorem q821 : (Jvm.Cond.selects "java/util/ArrayList" ({ cls := "java/util/ArrayList", name := "isEmpty", desc := "()Z" } : Jvm.MethodName) ({ cls := "java/util/ArrayList", name := "isEmpty", desc := "()Z" } : Jvm.MethodName)) ∈ lw_all := lw_g (lw_at lw_m3 221 rfl) rfl
theorem q822 : (Jvm.Cond.code ({ cls := "java/util/ArrayList", name := "isEmpty", desc := "()Z" } : Jvm.MethodName) prog_41_method_9_code (1 : Nat) (Option.some Jvm.ClassFile.FieldType.boolean)) ∈ lw_all := lw_g (lw_at lw_m3 222 rfl) rfl
theorem q2022 : (Jvm.Cond.castable "java/util/ArrayList" "java/lang/Object") ∈ lw_tbl := lw_at lw_m8 222 rfl
theorem in_J3 : ∀ w ∈ wsJ30, w ∈ lw_all := lw_in wsJ30 [372, 368, 370] (by decide +kernel) (by decide +kernel)
/-! java/lang/String -/
set_option maxRecDepth 100000
def RJ4 : String := "java/lang/String"
abbrev cJ4_length : ByteArray := prog_32_method_54_code
def yJ4_length : MethodName := ⟨RJ4, "length", "()I"⟩
def dkwJ4_length_0 : List UInt8 := [42, 180, 0, 9, 190, 42, 182, 1, 79, 122, 172]
abbrev dktJ4_length_0 : List UInt8 := dkwJ4_length_0 ++ []
theorem dksJ4_length_0 : cJ4_length.data.toList.drop 0 = dktJ4_length_0 := by decide +kernel
theorem dJ4_length_0 : decode cJ4_length 0 = .ok (.aload_n 0, 1) := dk_42 (dk_at dksJ4_length_0 0 rfl rfl)
theorem dJ4_length_1 : decode cJ4_length 1 = .ok (.getfield 9, 3) := dk_180 0 9 (dk_at dksJ4_length_0 1 rfl rfl)
theorem dJ4_length_4 : decode cJ4_length 4 = .ok (.arraylength, 1) := dk_190 (dk_at dksJ4_length_0 4 rfl rfl)
theorem dJ4_length_5 : decode cJ4_length 5 = .ok (.aload_n 0, 1) := dk_42 (dk_at dksJ4_length_0 5 rfl rfl)
theorem dJ4_length_6 : decode cJ4_length 6 = .ok (.invokevirtual 335, 3) := dk_182 1 79 (dk_at dksJ4_length_0 6 rfl rfl)
theorem dJ4_length_9 : decode cJ4_length 9 = .ok (.ishr, 1) := dk_122 (dk_at dksJ4_length_0 9 rfl rfl)
theorem dJ4_length_10 : decode cJ4_length 10 = .ok (.ireturn, 1) := dk_172 (dk_at dksJ4_length_0 10 rfl rfl)
abbrev cJ4_coder : ByteArray := prog_32_method_152_code
def yJ4_coder : MethodName := ⟨RJ4, "coder", "()B"⟩
def dkwJ4_coder_0 : List UInt8 := [178, 0, 38, 153, 0, 10, 42, 180, 0, 15, 167, 0, 4, 4, 172]
abbrev dktJ4_coder_0 : List UInt8 := dkwJ4_coder_0 ++ []
theorem dksJ4_coder_0 : cJ4_coder.data.toList.drop 0 = dktJ4_coder_0 := by decide +kernel
theorem dJ4_coder_0 : decode cJ4_coder 0 = .ok (.getstatic 38, 3) := dk_178 0 38 (dk_at dksJ4_coder_0 0 rfl rfl)
theorem dJ4_coder_3 : decode cJ4_coder 3 = .ok (.ifCond .eq 10, 3) := dk_153 0 10 (dk_at dksJ4_coder_0 3 rfl rfl)
theorem dJ4_coder_6 : decode cJ4_coder 6 = .ok (.aload_n 0, 1) := dk_42 (dk_at dksJ4_coder_0 6 rfl rfl)
theorem dJ4_coder_7 : decode cJ4_coder 7 = .ok (.getfield 15, 3) := dk_180 0 15 (dk_at dksJ4_coder_0 7 rfl rfl)
theorem dJ4_coder_10 : decode cJ4_coder 10 = .ok (.goto 4, 3) := dk_167 0 4 (dk_at dksJ4_coder_0 10 rfl rfl)
theorem dJ4_coder_13 : decode cJ4_coder 13 = .ok (.iconst 1, 1) := dk_4 (dk_at dksJ4_coder_0 13 rfl rfl)
theorem dJ4_coder_14 : decode cJ4_coder 14 = .ok (.ireturn, 1) := dk_172 (dk_at dksJ4_coder_0 14 rfl rfl)
abbrev cJ4_charAt : ByteArray := prog_32_method_56_code
def yJ4_charAt : MethodName := ⟨RJ4, "charAt", "(I)C"⟩
def dkwJ4_charAt_1 : List UInt8 := [172]
abbrev dktJ4_charAt_1 : List UInt8 := dkwJ4_charAt_1 ++ []
def dkwJ4_charAt_0 : List UInt8 := [42, 182, 1, 236, 153, 0, 12, 42, 180, 0, 9, 27, 184, 1, 239, 172, 42, 180, 0, 9, 27, 184, 1, 242]
abbrev dktJ4_charAt_0 : List UInt8 := dkwJ4_charAt_0 ++ dktJ4_charAt_1
theorem dksJ4_charAt_0 : cJ4_charAt.data.toList.drop 0 = dktJ4_charAt_0 := by decide +kernel
theorem dksJ4_charAt_1 : cJ4_charAt.data.toList.drop 24 = dktJ4_charAt_1 := dk_seg dksJ4_charAt_0 24 rfl rfl
theorem dJ4_charAt_0 : decode cJ4_charAt 0 = .ok (.aload_n 0, 1) := dk_42 (dk_at dksJ4_charAt_0 0 rfl rfl)
theorem dJ4_charAt_1 : decode cJ4_charAt 1 = .ok (.invokevirtual 492, 3) := dk_182 1 236 (dk_at dksJ4_charAt_0 1 rfl rfl)
theorem dJ4_charAt_4 : decode cJ4_charAt 4 = .ok (.ifCond .eq 12, 3) := dk_153 0 12 (dk_at dksJ4_charAt_0 4 rfl rfl)
theorem dJ4_charAt_7 : decode cJ4_charAt 7 = .ok (.aload_n 0, 1) := dk_42 (dk_at dksJ4_charAt_0 7 rfl rfl)
theorem dJ4_charAt_8 : decode cJ4_charAt 8 = .ok (.getfield 9, 3) := dk_180 0 9 (dk_at dksJ4_charAt_0 8 rfl rfl)
theorem dJ4_charAt_11 : decode cJ4_charAt 11 = .ok (.iload_n 1, 1) := dk_27 (dk_at dksJ4_charAt_0 11 rfl rfl)
theorem dJ4_charAt_12 : decode cJ4_charAt 12 = .ok (.invokestatic 495, 3) := dk_184 1 239 (dk_at dksJ4_charAt_0 12 rfl rfl)
theorem dJ4_charAt_15 : decode cJ4_charAt 15 = .ok (.ireturn, 1) := dk_172 (dk_at dksJ4_charAt_0 15 rfl rfl)
theorem dJ4_charAt_16 : decode cJ4_charAt 16 = .ok (.aload_n 0, 1) := dk_42 (dk_at dksJ4_charAt_0 16 rfl rfl)
theorem dJ4_charAt_17 : decode cJ4_charAt 17 = .ok (.getfield 9, 3) := dk_180 0 9 (dk_at dksJ4_charAt_0 17 rfl rfl)
theorem dJ4_charAt_20 : decode cJ4_charAt 20 = .ok (.iload_n 1, 1) := dk_27 (dk_at dksJ4_charAt_0 20 rfl rfl)
theorem dJ4_charAt_21 : decode cJ4_charAt 21 = .ok (.invokestatic 498, 3) := dk_184 1 242 (dk_at dksJ4_charAt_0 21 rfl rfl)
theorem dJ4_charAt_24 : decode cJ4_charAt 24 = .ok (.ireturn, 1) := dk_172 (dk_at dksJ4_charAt_1 0 rfl rfl)
abbrev cJ4_isLatin1 : ByteArray := prog_32_method_154_code
def yJ4_isLatin1 : MethodName := ⟨RJ4, "isLatin1", "()Z"⟩
def dkwJ4_isLatin1_0 : List UInt8 := [178, 0, 38, 153, 0, 14, 42, 180, 0, 15, 154, 0, 7, 4, 167, 0, 4, 3, 172]
abbrev dktJ4_isLatin1_0 : List UInt8 := dkwJ4_isLatin1_0 ++ []
theorem dksJ4_isLatin1_0 : cJ4_isLatin1.data.toList.drop 0 = dktJ4_isLatin1_0 := by decide +kernel
theorem dJ4_isLatin1_0 : decode cJ4_isLatin1 0 = .ok (.getstatic 38, 3) := dk_178 0 38 (dk_at dksJ4_isLatin1_0 0 rfl rfl)
theorem dJ4_isLatin1_3 : decode cJ4_isLatin1 3 = .ok (.ifCond .eq 14, 3) := dk_153 0 14 (dk_at dksJ4_isLatin1_0 3 rfl rfl)
theorem dJ4_isLatin1_6 : decode cJ4_isLatin1 6 = .ok (.aload_n 0, 1) := dk_42 (dk_at dksJ4_isLatin1_0 6 rfl rfl)
theorem dJ4_isLatin1_7 : decode cJ4_isLatin1 7 = .ok (.getfield 15, 3) := dk_180 0 15 (dk_at dksJ4_isLatin1_0 7 rfl rfl)
theorem dJ4_isLatin1_10 : decode cJ4_isLatin1 10 = .ok (.ifCond .ne 7, 3) := dk_154 0 7 (dk_at dksJ4_isLatin1_0 10 rfl rfl)
theorem dJ4_isLatin1_13 : decode cJ4_isLatin1 13 = .ok (.iconst 1, 1) := dk_4 (dk_at dksJ4_isLatin1_0 13 rfl rfl)
theorem dJ4_isLatin1_14 : decode cJ4_isLatin1 14 = .ok (.goto 4, 3) := dk_167 0 4 (dk_at dksJ4_isLatin1_0 14 rfl rfl)
theorem dJ4_isLatin1_17 : decode cJ4_isLatin1 17 = .ok (.iconst 0, 1) := dk_3 (dk_at dksJ4_isLatin1_0 17 rfl rfl)
theorem dJ4_isLatin1_18 : decode cJ4_isLatin1 18 = .ok (.ireturn, 1) := dk_172 (dk_at dksJ4_isLatin1_0 18 rfl rfl)
abbrev cJ4_checkIndex : ByteArray := prog_32_method_155_code
def yJ4_checkIndex : MethodName := ⟨RJ4, "checkIndex", "(II)V"⟩
def dkwJ4_checkIndex_0 : List UInt8 := [26, 27, 178, 4, 29, 184, 4, 35, 87, 177]
abbrev dktJ4_checkIndex_0 : List UInt8 := dkwJ4_checkIndex_0 ++ []
theorem dksJ4_checkIndex_0 : cJ4_checkIndex.data.toList.drop 0 = dktJ4_checkIndex_0 := by decide +kernel
theorem dJ4_checkIndex_0 : decode cJ4_checkIndex 0 = .ok (.iload_n 0, 1) := dk_26 (dk_at dksJ4_checkIndex_0 0 rfl rfl)
theorem dJ4_checkIndex_1 : decode cJ4_checkIndex 1 = .ok (.iload_n 1, 1) := dk_27 (dk_at dksJ4_checkIndex_0 1 rfl rfl)
theorem dJ4_checkIndex_2 : decode cJ4_checkIndex 2 = .ok (.getstatic 1053, 3) := dk_178 4 29 (dk_at dksJ4_checkIndex_0 2 rfl rfl)
theorem dJ4_checkIndex_5 : decode cJ4_checkIndex 5 = .ok (.invokestatic 1059, 3) := dk_184 4 35 (dk_at dksJ4_checkIndex_0 5 rfl rfl)
theorem dJ4_checkIndex_8 : decode cJ4_checkIndex 8 = .ok (.pop, 1) := dk_87 (dk_at dksJ4_checkIndex_0 8 rfl rfl)
theorem dJ4_checkIndex_9 : decode cJ4_checkIndex 9 = .ok (.return_, 1) := dk_177 (dk_at dksJ4_checkIndex_0 9 rfl rfl)
theorem q131 : (Jvm.Cond.initialized "java/lang/String") ∈ lw_all := lw_g (lw_at lw_m1 11 rfl) rfl
theorem q403 : (Jvm.Cond.instanceMethod ({ cls := "java/lang/String", name := "length", desc := "()I" } : Jvm.MethodName)) ∈ lw_all := lw_g (lw_at lw_m2 43 rfl) rfl
theorem q404 : (Jvm.Cond.selects "java/lang/String" ({ cls := "java/lang/String", name := "length", desc := "()I" } : Jvm.MethodName) ({ cls := "java/lang/String", name := "length", desc := "()I" } : Jvm.MethodName)) ∈ lw_all := lw_g (lw_at lw_m2 44 rfl) rfl
theorem q405 : (Jvm.Cond.code ({ cls := "java/lang/String", name := "length", desc := "()I" } : Jvm.MethodName) prog_32_method_54_code (1 : Nat) (Option.some Jvm.ClassFile.FieldType.int)) ∈ lw_all := lw_g (lw_at lw_m2 45 rfl) rfl
theorem q406 : (Jvm.Cond.methodLink "java/lang/String" (335 : Nat) ({ cls := "java/lang/String", name := "coder", desc := "()B" } : Jvm.MethodName)) ∈ lw_all := lw_g (lw_at lw_m2 46 rfl) rfl
theorem q407 : (Jvm.Cond.instanceMethod ({ cls := "java/lang/String", name := "coder", desc := "()B" } : Jvm.MethodName)) ∈ lw_all := lw_g (lw_at lw_m2 47 rfl) rfl
theorem q408 : (Jvm.Cond.selects "java/lang/String" ({ cls := "java/lang/String", name := "coder", desc := "()B" } : Jvm.MethodName) ({ cls := "java/lang/String", name := "coder", desc := "()B" } : Jvm.MethodName)) ∈ lw_all := lw_g (lw_at lw_m2 48 rfl) rfl
theorem q409 : (Jvm.Cond.code ({ cls := "java/lang/String", name := "coder", desc := "()B" } : Jvm.MethodName) prog_32_method_152_code (1 : Nat) (Option.some Jvm.ClassFile.FieldType.byte)) ∈ lw_all := lw_g (lw_at lw_m2 49 rfl) rfl
theorem q410 : (Jvm.Cond.fieldLink "java/lang/String" (38 : Nat) "java/lang/String" "COMPACT_STRINGS" "Z") ∈ lw_all := lw_g (lw_at lw_m2 50 rfl) rfl
theorem q411 : (Jvm.Cond.laysStatic "java/lang/String" "COMPACT_STRINGS" "Z") ∈ lw_tbl := lw_at lw_m2 51 rfl
theorem q413 : (Jvm.Cond.instanceMethod ({ cls := "java/lang/String", name := "charAt", desc := "(I)C" } : Jvm.MethodName)) ∈ lw_all := lw_g (lw_at lw_m2 53 rfl) rfl
theorem q414 : (Jvm.Cond.selects "java/lang/String" ({ cls := "java/lang/String", name := "charAt", desc := "(I)C" } : Jvm.MethodName) ({ cls := "java/lang/String", name := "charAt", desc := "(I)C" } : Jvm.MethodName)) ∈ lw_all := lw_g (lw_at lw_m2 54 rfl) rfl
theorem q415 : (Jvm.Cond.code ({ cls := "java/lang/String", name := "charAt", desc := "(I)C" } : Jvm.MethodName) prog_32_method_56_code (2 : Nat) (Option.some Jvm.ClassFile.FieldType.char)) ∈ lw_all := lw_g (lw_at lw_m2 55 rfl) rfl
theorem q416 : (Jvm.Cond.methodLink "java/lang/String" (492 : Nat) ({ cls := "java/lang/String", name := "isLatin1", desc := "()Z" } : Jvm.MethodName)) ∈ lw_all := lw_g (lw_at lw_m2 56 rfl) rfl
theorem q417 : (Jvm.Cond.instanceMethod ({ cls := "java/lang/String", name := "isLatin1", desc := "()Z" } : Jvm.MethodName)) ∈ lw_all := lw_g (lw_at lw_m2 57 rfl) rfl
theorem q418 : (Jvm.Cond.selects "java/lang/String" ({ cls := "java/lang/String", name := "isLatin1", desc := "()Z" } : Jvm.MethodName) ({ cls := "java/lang/String", name := "isLatin1", desc := "()Z" } : Jvm.MethodName)) ∈ lw_all := lw_g (lw_at lw_m2 58 rfl) rfl
theorem q419 : (Jvm.Cond.code ({ cls := "java/lang/String", name := "isLatin1", desc := "()Z" } : Jvm.MethodName) prog_32_method_154_code (1 : Nat) (Option.some Jvm.ClassFile.FieldType.boolean)) ∈ lw_all := lw_g (lw_at lw_m2 59 rfl) rfl
theorem q420 : (Jvm.Cond.methodLink "java/lang/String" (495 : Nat) ({ cls := "java/lang/StringLatin1", name := "charAt", desc := "([BI)C" } : Jvm.MethodName)) ∈ lw_all := lw_g (lw_at lw_m2 60 rfl) rfl
theorem q424 : (Jvm.Cond.static ({ cls := "java/lang/String", name := "checkIndex", desc := "(II)V" } : Jvm.MethodName)) ∈ lw_all := lw_g (lw_at lw_m2 64 rfl) rfl
theorem q425 : (Jvm.Cond.code ({ cls := "java/lang/String", name := "checkIndex", desc := "(II)V" } : Jvm.MethodName) prog_32_method_155_code (2 : Nat) (Option.none : Option Jvm.ClassFile.FieldType)) ∈ lw_all := lw_g (lw_at lw_m2 65 rfl) rfl
theorem q426 : (Jvm.Cond.fieldLink "java/lang/String" (1053 : Nat) "jdk/internal/util/Preconditions" "SIOOBE_FORMATTER" "Ljava/util/function/BiFunction;") ∈ lw_all := lw_g (lw_at lw_m2 66 rfl) rfl
theorem q428 : (Jvm.Cond.methodLink "java/lang/String" (1059 : Nat) ({ cls := "jdk/internal/util/Preconditions", name := "checkIndex", desc := "(IILjava/util/function/BiFunction;)I" } : Jvm.MethodName)) ∈ lw_all := lw_g (lw_at lw_m2 68 rfl) rfl
theorem q431 : (Jvm.Cond.methodLink "java/lang/String" (498 : Nat) ({ cls := "java/lang/StringUTF16", name := "charAt", desc := "([BI)C" } : Jvm.MethodName)) ∈ lw_all := lw_g (lw_at lw_m2 71 rfl) rfl
theorem q2017 : (Jvm.Cond.castable "java/lang/String" "java/lang/Object") ∈ lw_tbl := lw_at lw_m8 217 rfl
theorem q2049 : (Jvm.Cond.fieldLink "java/lang/String" (9 : Nat) "java/lang/String" "value" "[B") ∈ lw_all := lw_g (lw_at lw_m9 9 rfl) rfl
theorem q2050 : (Jvm.Cond.fieldLink "java/lang/String" (15 : Nat) "java/lang/String" "coder" "B") ∈ lw_all := lw_g (lw_at lw_m9 10 rfl) rfl
/-! java/lang/StringLatin1 -/
set_option maxRecDepth 100000
def RJ5 : String := "java/lang/StringLatin1"
abbrev cJ5_charAt : ByteArray := prog_33_method_2_code
def yJ5_charAt : MethodName := ⟨RJ5, "charAt", "([BI)C"⟩
def dkwJ5_charAt_0 : List UInt8 := [27, 42, 190, 184, 0, 9, 42, 27, 51, 17, 0, 255, 126, 146, 172]
abbrev dktJ5_charAt_0 : List UInt8 := dkwJ5_charAt_0 ++ []
theorem dksJ5_charAt_0 : cJ5_charAt.data.toList.drop 0 = dktJ5_charAt_0 := by decide +kernel
theorem dJ5_charAt_0 : decode cJ5_charAt 0 = .ok (.iload_n 1, 1) := dk_27 (dk_at dksJ5_charAt_0 0 rfl rfl)
theorem dJ5_charAt_1 : decode cJ5_charAt 1 = .ok (.aload_n 0, 1) := dk_42 (dk_at dksJ5_charAt_0 1 rfl rfl)
theorem dJ5_charAt_2 : decode cJ5_charAt 2 = .ok (.arraylength, 1) := dk_190 (dk_at dksJ5_charAt_0 2 rfl rfl)
theorem dJ5_charAt_3 : decode cJ5_charAt 3 = .ok (.invokestatic 9, 3) := dk_184 0 9 (dk_at dksJ5_charAt_0 3 rfl rfl)
theorem dJ5_charAt_6 : decode cJ5_charAt 6 = .ok (.aload_n 0, 1) := dk_42 (dk_at dksJ5_charAt_0 6 rfl rfl)
theorem dJ5_charAt_7 : decode cJ5_charAt 7 = .ok (.iload_n 1, 1) := dk_27 (dk_at dksJ5_charAt_0 7 rfl rfl)
theorem dJ5_charAt_8 : decode cJ5_charAt 8 = .ok (.baload, 1) := dk_51 (dk_at dksJ5_charAt_0 8 rfl rfl)
theorem dJ5_charAt_9 : decode cJ5_charAt 9 = .ok (.sipush 255, 3) := dk_17 0 255 (dk_at dksJ5_charAt_0 9 rfl rfl)
theorem dJ5_charAt_12 : decode cJ5_charAt 12 = .ok (.iand, 1) := dk_126 (dk_at dksJ5_charAt_0 12 rfl rfl)
theorem dJ5_charAt_13 : decode cJ5_charAt 13 = .ok (.i2c, 1) := dk_146 (dk_at dksJ5_charAt_0 13 rfl rfl)
theorem dJ5_charAt_14 : decode cJ5_charAt 14 = .ok (.ireturn, 1) := dk_172 (dk_at dksJ5_charAt_0 14 rfl rfl)
theorem q132 : (Jvm.Cond.initialized "java/lang/StringLatin1") ∈ lw_all := lw_g (lw_at lw_m1 12 rfl) rfl
theorem q421 : (Jvm.Cond.static ({ cls := "java/lang/StringLatin1", name := "charAt", desc := "([BI)C" } : Jvm.MethodName)) ∈ lw_all := lw_g (lw_at lw_m2 61 rfl) rfl
theorem q422 : (Jvm.Cond.code ({ cls := "java/lang/StringLatin1", name := "charAt", desc := "([BI)C" } : Jvm.MethodName) prog_33_method_2_code (2 : Nat) (Option.some Jvm.ClassFile.FieldType.char)) ∈ lw_all := lw_g (lw_at lw_m2 62 rfl) rfl
theorem q423 : (Jvm.Cond.methodLink "java/lang/StringLatin1" (9 : Nat) ({ cls := "java/lang/String", name := "checkIndex", desc := "(II)V" } : Jvm.MethodName)) ∈ lw_all := lw_g (lw_at lw_m2 63 rfl) rfl
/-! jdk/internal/util/Preconditions -/
set_option maxRecDepth 100000
def RJ6 : String := "jdk/internal/util/Preconditions"
abbrev cJ6_checkIndex : ByteArray := prog_49_method_11_code
def yJ6_checkIndex : MethodName := ⟨RJ6, "checkIndex", "(IILjava/util/function/BiFunction;)I"⟩
def dkwJ6_checkIndex_0 : List UInt8 := [26, 155, 0, 8, 26, 27, 161, 0, 10, 44, 26, 27, 184, 0, 95, 191, 26, 172]
abbrev dktJ6_checkIndex_0 : List UInt8 := dkwJ6_checkIndex_0 ++ []
theorem dksJ6_checkIndex_0 : cJ6_checkIndex.data.toList.drop 0 = dktJ6_checkIndex_0 := by decide +kernel
theorem dJ6_checkIndex_0 : decode cJ6_checkIndex 0 = .ok (.iload_n 0, 1) := dk_26 (dk_at dksJ6_checkIndex_0 0 rfl rfl)
theorem dJ6_checkIndex_1 : decode cJ6_checkIndex 1 = .ok (.ifCond .lt 8, 3) := dk_155 0 8 (dk_at dksJ6_checkIndex_0 1 rfl rfl)
theorem dJ6_checkIndex_4 : decode cJ6_checkIndex 4 = .ok (.iload_n 0, 1) := dk_26 (dk_at dksJ6_checkIndex_0 4 rfl rfl)
theorem dJ6_checkIndex_5 : decode cJ6_checkIndex 5 = .ok (.iload_n 1, 1) := dk_27 (dk_at dksJ6_checkIndex_0 5 rfl rfl)
theorem dJ6_checkIndex_6 : decode cJ6_checkIndex 6 = .ok (.if_icmp .lt 10, 3) := dk_161 0 10 (dk_at dksJ6_checkIndex_0 6 rfl rfl)
theorem dJ6_checkIndex_9 : decode cJ6_checkIndex 9 = .ok (.aload_n 2, 1) := dk_44 (dk_at dksJ6_checkIndex_0 9 rfl rfl)
theorem dJ6_checkIndex_10 : decode cJ6_checkIndex 10 = .ok (.iload_n 0, 1) := dk_26 (dk_at dksJ6_checkIndex_0 10 rfl rfl)
theorem dJ6_checkIndex_11 : decode cJ6_checkIndex 11 = .ok (.iload_n 1, 1) := dk_27 (dk_at dksJ6_checkIndex_0 11 rfl rfl)
theorem dJ6_checkIndex_12 : decode cJ6_checkIndex 12 = .ok (.invokestatic 95, 3) := dk_184 0 95 (dk_at dksJ6_checkIndex_0 12 rfl rfl)
theorem dJ6_checkIndex_15 : decode cJ6_checkIndex 15 = .ok (.athrow, 1) := dk_191 (dk_at dksJ6_checkIndex_0 15 rfl rfl)
theorem dJ6_checkIndex_16 : decode cJ6_checkIndex 16 = .ok (.iload_n 0, 1) := dk_26 (dk_at dksJ6_checkIndex_0 16 rfl rfl)
theorem dJ6_checkIndex_17 : decode cJ6_checkIndex 17 = .ok (.ireturn, 1) := dk_172 (dk_at dksJ6_checkIndex_0 17 rfl rfl)
theorem q133 : (Jvm.Cond.initialized "jdk/internal/util/Preconditions") ∈ lw_all := lw_g (lw_at lw_m1 13 rfl) rfl
theorem q427 : (Jvm.Cond.laysStatic "jdk/internal/util/Preconditions" "SIOOBE_FORMATTER" "Ljava/util/function/BiFunction;") ∈ lw_tbl := lw_at lw_m2 67 rfl
theorem q429 : (Jvm.Cond.static ({ cls := "jdk/internal/util/Preconditions", name := "checkIndex", desc := "(IILjava/util/function/BiFunction;)I" } : Jvm.MethodName)) ∈ lw_all := lw_g (lw_at lw_m2 69 rfl) rfl
theorem q430 : (Jvm.Cond.code ({ cls := "jdk/internal/util/Preconditions", name := "checkIndex", desc := "(IILjava/util/function/BiFunction;)I" } : Jvm.MethodName) prog_49_method_11_code (3 : Nat) (Option.some Jvm.ClassFile.FieldType.int)) ∈ lw_all := lw_g (lw_at lw_m2 70 rfl) rfl
/-! java/lang/StringUTF16 -/
set_option maxRecDepth 100000
def RJ7 : String := "java/lang/StringUTF16"
abbrev cJ7_charAt : ByteArray := prog_34_method_83_code
def yJ7_charAt : MethodName := ⟨RJ7, "charAt", "([BI)C"⟩
def dkwJ7_charAt_0 : List UInt8 := [27, 42, 184, 0, 67, 42, 27, 184, 0, 71, 172]
abbrev dktJ7_charAt_0 : List UInt8 := dkwJ7_charAt_0 ++ []
theorem dksJ7_charAt_0 : cJ7_charAt.data.toList.drop 0 = dktJ7_charAt_0 := by decide +kernel
theorem dJ7_charAt_0 : decode cJ7_charAt 0 = .ok (.iload_n 1, 1) := dk_27 (dk_at dksJ7_charAt_0 0 rfl rfl)
theorem dJ7_charAt_1 : decode cJ7_charAt 1 = .ok (.aload_n 0, 1) := dk_42 (dk_at dksJ7_charAt_0 1 rfl rfl)
theorem dJ7_charAt_2 : decode cJ7_charAt 2 = .ok (.invokestatic 67, 3) := dk_184 0 67 (dk_at dksJ7_charAt_0 2 rfl rfl)
theorem dJ7_charAt_5 : decode cJ7_charAt 5 = .ok (.aload_n 0, 1) := dk_42 (dk_at dksJ7_charAt_0 5 rfl rfl)
theorem dJ7_charAt_6 : decode cJ7_charAt 6 = .ok (.iload_n 1, 1) := dk_27 (dk_at dksJ7_charAt_0 6 rfl rfl)
theorem dJ7_charAt_7 : decode cJ7_charAt 7 = .ok (.invokestatic 71, 3) := dk_184 0 71 (dk_at dksJ7_charAt_0 7 rfl rfl)
theorem dJ7_charAt_10 : decode cJ7_charAt 10 = .ok (.ireturn, 1) := dk_172 (dk_at dksJ7_charAt_0 10 rfl rfl)
abbrev cJ7_checkIndex : ByteArray := prog_34_method_91_code
def yJ7_checkIndex : MethodName := ⟨RJ7, "checkIndex", "(I[B)V"⟩
def dkwJ7_checkIndex_0 : List UInt8 := [26, 43, 184, 0, 48, 184, 1, 158, 177]
abbrev dktJ7_checkIndex_0 : List UInt8 := dkwJ7_checkIndex_0 ++ []
theorem dksJ7_checkIndex_0 : cJ7_checkIndex.data.toList.drop 0 = dktJ7_checkIndex_0 := by decide +kernel
theorem dJ7_checkIndex_0 : decode cJ7_checkIndex 0 = .ok (.iload_n 0, 1) := dk_26 (dk_at dksJ7_checkIndex_0 0 rfl rfl)
theorem dJ7_checkIndex_1 : decode cJ7_checkIndex 1 = .ok (.aload_n 1, 1) := dk_43 (dk_at dksJ7_checkIndex_0 1 rfl rfl)
theorem dJ7_checkIndex_2 : decode cJ7_checkIndex 2 = .ok (.invokestatic 48, 3) := dk_184 0 48 (dk_at dksJ7_checkIndex_0 2 rfl rfl)
theorem dJ7_checkIndex_5 : decode cJ7_checkIndex 5 = .ok (.invokestatic 414, 3) := dk_184 1 158 (dk_at dksJ7_checkIndex_0 5 rfl rfl)
theorem dJ7_checkIndex_8 : decode cJ7_checkIndex 8 = .ok (.return_, 1) := dk_177 (dk_at dksJ7_checkIndex_0 8 rfl rfl)
abbrev cJ7_length : ByteArray := prog_34_method_6_code
def yJ7_length : MethodName := ⟨RJ7, "length", "([B)I"⟩
def dkwJ7_length_0 : List UInt8 := [42, 190, 4, 122, 172]
abbrev dktJ7_length_0 : List UInt8 := dkwJ7_length_0 ++ []
theorem dksJ7_length_0 : cJ7_length.data.toList.drop 0 = dktJ7_length_0 := by decide +kernel
theorem dJ7_length_0 : decode cJ7_length 0 = .ok (.aload_n 0, 1) := dk_42 (dk_at dksJ7_length_0 0 rfl rfl)
theorem dJ7_length_1 : decode cJ7_length 1 = .ok (.arraylength, 1) := dk_190 (dk_at dksJ7_length_0 1 rfl rfl)
theorem dJ7_length_2 : decode cJ7_length 2 = .ok (.iconst 1, 1) := dk_4 (dk_at dksJ7_length_0 2 rfl rfl)
theorem dJ7_length_3 : decode cJ7_length 3 = .ok (.ishr, 1) := dk_122 (dk_at dksJ7_length_0 3 rfl rfl)
theorem dJ7_length_4 : decode cJ7_length 4 = .ok (.ireturn, 1) := dk_172 (dk_at dksJ7_length_0 4 rfl rfl)
abbrev cJ7_getChar : ByteArray := prog_34_method_5_code
def yJ7_getChar : MethodName := ⟨RJ7, "getChar", "([BI)C"⟩
def dkwJ7_getChar_2 : List UInt8 := [51, 17, 0, 255, 126, 178, 0, 63, 120, 128, 146, 172]
abbrev dktJ7_getChar_2 : List UInt8 := dkwJ7_getChar_2 ++ []
def dkwJ7_getChar_1 : List UInt8 := [183, 0, 56, 191, 27, 4, 120, 60, 42, 27, 132, 1, 1, 51, 17, 0, 255, 126, 178, 0, 59, 120, 42, 27]
abbrev dktJ7_getChar_1 : List UInt8 := dkwJ7_getChar_1 ++ dktJ7_getChar_2
def dkwJ7_getChar_0 : List UInt8 := [178, 0, 44, 154, 0, 25, 27, 155, 0, 11, 27, 42, 184, 0, 48, 161, 0, 13, 187, 0, 52, 89, 18, 54]
abbrev dktJ7_getChar_0 : List UInt8 := dkwJ7_getChar_0 ++ dktJ7_getChar_1
theorem dksJ7_getChar_0 : cJ7_getChar.data.toList.drop 0 = dktJ7_getChar_0 := by decide +kernel
theorem dksJ7_getChar_1 : cJ7_getChar.data.toList.drop 24 = dktJ7_getChar_1 := dk_seg dksJ7_getChar_0 24 rfl rfl
theorem dksJ7_getChar_2 : cJ7_getChar.data.toList.drop 48 = dktJ7_getChar_2 := dk_seg dksJ7_getChar_1 24 rfl rfl
theorem dJ7_getChar_0 : decode cJ7_getChar 0 = .ok (.getstatic 44, 3) := dk_178 0 44 (dk_at dksJ7_getChar_0 0 rfl rfl)
theorem dJ7_getChar_3 : decode cJ7_getChar 3 = .ok (.ifCond .ne 25, 3) := dk_154 0 25 (dk_at dksJ7_getChar_0 3 rfl rfl)
theorem dJ7_getChar_6 : decode cJ7_getChar 6 = .ok (.iload_n 1, 1) := dk_27 (dk_at dksJ7_getChar_0 6 rfl rfl)
theorem dJ7_getChar_7 : decode cJ7_getChar 7 = .ok (.ifCond .lt 11, 3) := dk_155 0 11 (dk_at dksJ7_getChar_0 7 rfl rfl)
theorem dJ7_getChar_10 : decode cJ7_getChar 10 = .ok (.iload_n 1, 1) := dk_27 (dk_at dksJ7_getChar_0 10 rfl rfl)
theorem dJ7_getChar_11 : decode cJ7_getChar 11 = .ok (.aload_n 0, 1) := dk_42 (dk_at dksJ7_getChar_0 11 rfl rfl)
theorem dJ7_getChar_12 : decode cJ7_getChar 12 = .ok (.invokestatic 48, 3) := dk_184 0 48 (dk_at dksJ7_getChar_0 12 rfl rfl)
theorem dJ7_getChar_15 : decode cJ7_getChar 15 = .ok (.if_icmp .lt 13, 3) := dk_161 0 13 (dk_at dksJ7_getChar_0 15 rfl rfl)
theorem dJ7_getChar_18 : decode cJ7_getChar 18 = .ok (.new 52, 3) := dk_187 0 52 (dk_at dksJ7_getChar_0 18 rfl rfl)
theorem dJ7_getChar_21 : decode cJ7_getChar 21 = .ok (.dup, 1) := dk_89 (dk_at dksJ7_getChar_0 21 rfl rfl)
theorem dJ7_getChar_22 : decode cJ7_getChar 22 = .ok (.ldc 54, 2) := dk_18 54 (dk_at dksJ7_getChar_0 22 rfl rfl)
theorem dJ7_getChar_24 : decode cJ7_getChar 24 = .ok (.invokespecial 56, 3) := dk_183 0 56 (dk_at dksJ7_getChar_1 0 rfl rfl)
theorem dJ7_getChar_27 : decode cJ7_getChar 27 = .ok (.athrow, 1) := dk_191 (dk_at dksJ7_getChar_1 3 rfl rfl)
theorem dJ7_getChar_28 : decode cJ7_getChar 28 = .ok (.iload_n 1, 1) := dk_27 (dk_at dksJ7_getChar_1 4 rfl rfl)
theorem dJ7_getChar_29 : decode cJ7_getChar 29 = .ok (.iconst 1, 1) := dk_4 (dk_at dksJ7_getChar_1 5 rfl rfl)
theorem dJ7_getChar_30 : decode cJ7_getChar 30 = .ok (.ishl, 1) := dk_120 (dk_at dksJ7_getChar_1 6 rfl rfl)
theorem dJ7_getChar_31 : decode cJ7_getChar 31 = .ok (.istore_n 1, 1) := dk_60 (dk_at dksJ7_getChar_1 7 rfl rfl)
theorem dJ7_getChar_32 : decode cJ7_getChar 32 = .ok (.aload_n 0, 1) := dk_42 (dk_at dksJ7_getChar_1 8 rfl rfl)
theorem dJ7_getChar_33 : decode cJ7_getChar 33 = .ok (.iload_n 1, 1) := dk_27 (dk_at dksJ7_getChar_1 9 rfl rfl)
theorem dJ7_getChar_34 : decode cJ7_getChar 34 = .ok (.iinc 1 1, 3) := dk_132 1 1 (dk_at dksJ7_getChar_1 10 rfl rfl)
theorem dJ7_getChar_37 : decode cJ7_getChar 37 = .ok (.baload, 1) := dk_51 (dk_at dksJ7_getChar_1 13 rfl rfl)
theorem dJ7_getChar_38 : decode cJ7_getChar 38 = .ok (.sipush 255, 3) := dk_17 0 255 (dk_at dksJ7_getChar_1 14 rfl rfl)
theorem dJ7_getChar_41 : decode cJ7_getChar 41 = .ok (.iand, 1) := dk_126 (dk_at dksJ7_getChar_1 17 rfl rfl)
theorem dJ7_getChar_42 : decode cJ7_getChar 42 = .ok (.getstatic 59, 3) := dk_178 0 59 (dk_at dksJ7_getChar_1 18 rfl rfl)
theorem dJ7_getChar_45 : decode cJ7_getChar 45 = .ok (.ishl, 1) := dk_120 (dk_at dksJ7_getChar_1 21 rfl rfl)
theorem dJ7_getChar_46 : decode cJ7_getChar 46 = .ok (.aload_n 0, 1) := dk_42 (dk_at dksJ7_getChar_1 22 rfl rfl)
theorem dJ7_getChar_47 : decode cJ7_getChar 47 = .ok (.iload_n 1, 1) := dk_27 (dk_at dksJ7_getChar_1 23 rfl rfl)
theorem dJ7_getChar_48 : decode cJ7_getChar 48 = .ok (.baload, 1) := dk_51 (dk_at dksJ7_getChar_2 0 rfl rfl)
theorem dJ7_getChar_49 : decode cJ7_getChar 49 = .ok (.sipush 255, 3) := dk_17 0 255 (dk_at dksJ7_getChar_2 1 rfl rfl)
theorem dJ7_getChar_52 : decode cJ7_getChar 52 = .ok (.iand, 1) := dk_126 (dk_at dksJ7_getChar_2 4 rfl rfl)
theorem dJ7_getChar_53 : decode cJ7_getChar 53 = .ok (.getstatic 63, 3) := dk_178 0 63 (dk_at dksJ7_getChar_2 5 rfl rfl)
theorem dJ7_getChar_56 : decode cJ7_getChar 56 = .ok (.ishl, 1) := dk_120 (dk_at dksJ7_getChar_2 8 rfl rfl)
theorem dJ7_getChar_57 : decode cJ7_getChar 57 = .ok (.ior, 1) := dk_128 (dk_at dksJ7_getChar_2 9 rfl rfl)
theorem dJ7_getChar_58 : decode cJ7_getChar 58 = .ok (.i2c, 1) := dk_146 (dk_at dksJ7_getChar_2 10 rfl rfl)
theorem dJ7_getChar_59 : decode cJ7_getChar 59 = .ok (.ireturn, 1) := dk_172 (dk_at dksJ7_getChar_2 11 rfl rfl)
theorem q134 : (Jvm.Cond.initialized "java/lang/StringUTF16") ∈ lw_all := lw_g (lw_at lw_m1 14 rfl) rfl
theorem q432 : (Jvm.Cond.static ({ cls := "java/lang/StringUTF16", name := "charAt", desc := "([BI)C" } : Jvm.MethodName)) ∈ lw_all := lw_g (lw_at lw_m2 72 rfl) rfl
theorem q433 : (Jvm.Cond.code ({ cls := "java/lang/StringUTF16", name := "charAt", desc := "([BI)C" } : Jvm.MethodName) prog_34_method_83_code (2 : Nat) (Option.some Jvm.ClassFile.FieldType.char)) ∈ lw_all := lw_g (lw_at lw_m2 73 rfl) rfl
theorem q434 : (Jvm.Cond.methodLink "java/lang/StringUTF16" (67 : Nat) ({ cls := "java/lang/StringUTF16", name := "checkIndex", desc := "(I[B)V" } : Jvm.MethodName)) ∈ lw_all := lw_g (lw_at lw_m2 74 rfl) rfl
theorem q435 : (Jvm.Cond.static ({ cls := "java/lang/StringUTF16", name := "checkIndex", desc := "(I[B)V" } : Jvm.MethodName)) ∈ lw_all := lw_g (lw_at lw_m2 75 rfl) rfl
theorem q436 : (Jvm.Cond.code ({ cls := "java/lang/StringUTF16", name := "checkIndex", desc := "(I[B)V" } : Jvm.MethodName) prog_34_method_91_code (2 : Nat) (Option.none : Option Jvm.ClassFile.FieldType)) ∈ lw_all := lw_g (lw_at lw_m2 76 rfl) rfl
theorem q437 : (Jvm.Cond.methodLink "java/lang/StringUTF16" (48 : Nat) ({ cls := "java/lang/StringUTF16", name := "length", desc := "([B)I" } : Jvm.MethodName)) ∈ lw_all := lw_g (lw_at lw_m2 77 rfl) rfl
theorem q438 : (Jvm.Cond.static ({ cls := "java/lang/StringUTF16", name := "length", desc := "([B)I" } : Jvm.MethodName)) ∈ lw_all := lw_g (lw_at lw_m2 78 rfl) rfl
theorem q439 : (Jvm.Cond.code ({ cls := "java/lang/StringUTF16", name := "length", desc := "([B)I" } : Jvm.MethodName) prog_34_method_6_code (1 : Nat) (Option.some Jvm.ClassFile.FieldType.int)) ∈ lw_all := lw_g (lw_at lw_m2 79 rfl) rfl
theorem q440 : (Jvm.Cond.methodLink "java/lang/StringUTF16" (414 : Nat) ({ cls := "java/lang/String", name := "checkIndex", desc := "(II)V" } : Jvm.MethodName)) ∈ lw_all := lw_g (lw_at lw_m2 80 rfl) rfl
theorem q441 : (Jvm.Cond.methodLink "java/lang/StringUTF16" (71 : Nat) ({ cls := "java/lang/StringUTF16", name := "getChar", desc := "([BI)C" } : Jvm.MethodName)) ∈ lw_all := lw_g (lw_at lw_m2 81 rfl) rfl
theorem q442 : (Jvm.Cond.static ({ cls := "java/lang/StringUTF16", name := "getChar", desc := "([BI)C" } : Jvm.MethodName)) ∈ lw_all := lw_g (lw_at lw_m2 82 rfl) rfl
theorem q443 : (Jvm.Cond.code ({ cls := "java/lang/StringUTF16", name := "getChar", desc := "([BI)C" } : Jvm.MethodName) prog_34_method_5_code (2 : Nat) (Option.some Jvm.ClassFile.FieldType.char)) ∈ lw_all := lw_g (lw_at lw_m2 83 rfl) rfl
theorem q444 : (Jvm.Cond.fieldLink "java/lang/StringUTF16" (44 : Nat) "java/lang/StringUTF16" "$assertionsDisabled" "Z") ∈ lw_all := lw_g (lw_at lw_m2 84 rfl) rfl
theorem q445 : (Jvm.Cond.laysStatic "java/lang/StringUTF16" "$assertionsDisabled" "Z") ∈ lw_tbl := lw_at lw_m2 85 rfl
theorem q446 : (Jvm.Cond.fieldLink "java/lang/StringUTF16" (59 : Nat) "java/lang/StringUTF16" "HI_BYTE_SHIFT" "I") ∈ lw_all := lw_g (lw_at lw_m2 86 rfl) rfl
theorem q447 : (Jvm.Cond.laysStatic "java/lang/StringUTF16" "HI_BYTE_SHIFT" "I") ∈ lw_tbl := lw_at lw_m2 87 rfl
theorem q448 : (Jvm.Cond.fieldLink "java/lang/StringUTF16" (63 : Nat) "java/lang/StringUTF16" "LO_BYTE_SHIFT" "I") ∈ lw_all := lw_g (lw_at lw_m2 88 rfl) rfl
theorem q449 : (Jvm.Cond.laysStatic "java/lang/StringUTF16" "LO_BYTE_SHIFT" "I") ∈ lw_tbl := lw_at lw_m2 89 rfl
/-! java/lang/Throwable -/
set_option maxRecDepth 100000
def RJ9 : String := "java/lang/Throwable"
def TJ9 : u_T := fun k => match k with
  | 0 => ("java/lang/Throwable", "cause", "Ljava/lang/Throwable;", false)
  | 1 => ("java/lang/Throwable", "stackTrace", "[Ljava/lang/StackTraceElement;", false)
  | 2 => ("java/lang/Throwable", "suppressedExceptions", "Ljava/util/List;", false)
  | 3 => ("java/lang/Throwable", "detailMessage", "Ljava/lang/String;", false)
  | _ => ("java/lang/Throwable", "backtrace", "Ljava/lang/Object;", false)
def tyJ9 : Nat → FieldType := fun k => match k with
  | 0 => .object "java/lang/Throwable"
  | 1 => .array (.object "java/lang/StackTraceElement")
  | 2 => .object "java/util/List"
  | 3 => .object "java/lang/String"
  | _ => .object "java/lang/Object"
abbrev wsJ90 : List Cond := u_ws RJ9 TJ9 5
theorem nmJ9 : ∀ a, a < 5 → ∀ b, b < 5 → a ≠ b → (TJ9 a).2.1 ≠ (TJ9 b).2.1 := by decide +kernel
theorem tyJ9_ok : ∀ k, k < 5 → parseFieldDescriptor (TJ9 k).2.2.1 = some (tyJ9 k) := by decide +kernel
abbrev cJ9_init : ByteArray := prog_36_method_1_code
def yJ9_init : MethodName := ⟨RJ9, "<init>", "()V"⟩
def dkwJ9_init_1 : List UInt8 := [182, 0, 27, 87, 177]
abbrev dktJ9_init_1 : List UInt8 := dkwJ9_init_1 ++ []
def dkwJ9_init_0 : List UInt8 := [42, 183, 0, 1, 42, 42, 181, 0, 7, 42, 178, 0, 13, 181, 0, 17, 42, 178, 0, 20, 181, 0, 24, 42]
abbrev dktJ9_init_0 : List UInt8 := dkwJ9_init_0 ++ dktJ9_init_1
theorem dksJ9_init_0 : cJ9_init.data.toList.drop 0 = dktJ9_init_0 := by decide +kernel
theorem dksJ9_init_1 : cJ9_init.data.toList.drop 24 = dktJ9_init_1 := dk_seg dksJ9_init_0 24 rfl rfl
theorem dJ9_init_0 : decode cJ9_init 0 = .ok (.aload_n 0, 1) := dk_42 (dk_at dksJ9_init_0 0 rfl rfl)
theorem dJ9_init_1 : decode cJ9_init 1 = .ok (.invokespecial 1, 3) := dk_183 0 1 (dk_at dksJ9_init_0 1 rfl rfl)
theorem dJ9_init_4 : decode cJ9_init 4 = .ok (.aload_n 0, 1) := dk_42 (dk_at dksJ9_init_0 4 rfl rfl)
theorem dJ9_init_5 : decode cJ9_init 5 = .ok (.aload_n 0, 1) := dk_42 (dk_at dksJ9_init_0 5 rfl rfl)
theorem dJ9_init_6 : decode cJ9_init 6 = .ok (.putfield 7, 3) := dk_181 0 7 (dk_at dksJ9_init_0 6 rfl rfl)
theorem dJ9_init_9 : decode cJ9_init 9 = .ok (.aload_n 0, 1) := dk_42 (dk_at dksJ9_init_0 9 rfl rfl)
theorem dJ9_init_10 : decode cJ9_init 10 = .ok (.getstatic 13, 3) := dk_178 0 13 (dk_at dksJ9_init_0 10 rfl rfl)
theorem dJ9_init_13 : decode cJ9_init 13 = .ok (.putfield 17, 3) := dk_181 0 17 (dk_at dksJ9_init_0 13 rfl rfl)
theorem dJ9_init_16 : decode cJ9_init 16 = .ok (.aload_n 0, 1) := dk_42 (dk_at dksJ9_init_0 16 rfl rfl)
theorem dJ9_init_17 : decode cJ9_init 17 = .ok (.getstatic 20, 3) := dk_178 0 20 (dk_at dksJ9_init_0 17 rfl rfl)
theorem dJ9_init_20 : decode cJ9_init 20 = .ok (.putfield 24, 3) := dk_181 0 24 (dk_at dksJ9_init_0 20 rfl rfl)
theorem dJ9_init_23 : decode cJ9_init 23 = .ok (.aload_n 0, 1) := dk_42 (dk_at dksJ9_init_0 23 rfl rfl)
theorem dJ9_init_24 : decode cJ9_init 24 = .ok (.invokevirtual 27, 3) := dk_182 0 27 (dk_at dksJ9_init_1 0 rfl rfl)
theorem dJ9_init_27 : decode cJ9_init 27 = .ok (.pop, 1) := dk_87 (dk_at dksJ9_init_1 3 rfl rfl)
theorem dJ9_init_28 : decode cJ9_init 28 = .ok (.return_, 1) := dk_177 (dk_at dksJ9_init_1 4 rfl rfl)
theorem q136 : (Jvm.Cond.initialized "java/lang/Throwable") ∈ lw_all := lw_g (lw_at lw_m1 16 rfl) rfl
theorem q467 : (Jvm.Cond.declares ({ cls := "java/lang/Throwable", name := "<init>", desc := "()V" } : Jvm.MethodName)) ∈ lw_tbl := lw_at lw_m2 107 rfl
theorem q468 : (Jvm.Cond.declares ({ cls := "java/lang/Throwable", name := "<init>", desc := "(Ljava/lang/String;)V" } : Jvm.MethodName)) ∈ lw_tbl := lw_at lw_m2 108 rfl
theorem q472 : (Jvm.Cond.lays "java/lang/Throwable" "java/lang/Throwable" "cause" "Ljava/lang/Throwable;") ∈ lw_all := lw_g (lw_at lw_m2 112 rfl) rfl
theorem q474 : (Jvm.Cond.lays "java/lang/Throwable" "java/lang/Throwable" "stackTrace" "[Ljava/lang/StackTraceElement;") ∈ lw_all := lw_g (lw_at lw_m2 114 rfl) rfl
theorem q476 : (Jvm.Cond.lays "java/lang/Throwable" "java/lang/Throwable" "suppressedExceptions" "Ljava/util/List;") ∈ lw_all := lw_g (lw_at lw_m2 116 rfl) rfl
theorem q478 : (Jvm.Cond.lays "java/lang/Throwable" "java/lang/Throwable" "detailMessage" "Ljava/lang/String;") ∈ lw_all := lw_g (lw_at lw_m2 118 rfl) rfl
theorem q480 : (Jvm.Cond.lays "java/lang/Throwable" "java/lang/Throwable" "backtrace" "Ljava/lang/Object;") ∈ lw_all := lw_g (lw_at lw_m2 120 rfl) rfl
theorem q481 : (Jvm.Cond.fieldLink "java/lang/Throwable" (198 : Nat) "java/lang/Throwable" "backtrace" "Ljava/lang/Object;") ∈ lw_all := lw_g (lw_at lw_m2 121 rfl) rfl
theorem q482 : (Jvm.Cond.superclass "java/lang/Throwable" "java/lang/Object") ∈ lw_all := lw_g (lw_at lw_m2 122 rfl) rfl
theorem q483 : (Jvm.Cond.instanceMethod ({ cls := "java/lang/Throwable", name := "<init>", desc := "()V" } : Jvm.MethodName)) ∈ lw_all := lw_g (lw_at lw_m2 123 rfl) rfl
theorem q484 : (Jvm.Cond.code ({ cls := "java/lang/Throwable", name := "<init>", desc := "()V" } : Jvm.MethodName) prog_36_method_1_code (1 : Nat) (Option.none : Option Jvm.ClassFile.FieldType)) ∈ lw_all := lw_g (lw_at lw_m2 124 rfl) rfl
theorem q485 : (Jvm.Cond.methodLink "java/lang/Throwable" (1 : Nat) ({ cls := "java/lang/Object", name := "<init>", desc := "()V" } : Jvm.MethodName)) ∈ lw_all := lw_g (lw_at lw_m2 125 rfl) rfl
theorem q486 : (Jvm.Cond.fieldLink "java/lang/Throwable" (13 : Nat) "java/lang/Throwable" "UNASSIGNED_STACK" "[Ljava/lang/StackTraceElement;") ∈ lw_all := lw_g (lw_at lw_m2 126 rfl) rfl
theorem q487 : (Jvm.Cond.laysStatic "java/lang/Throwable" "UNASSIGNED_STACK" "[Ljava/lang/StackTraceElement;") ∈ lw_tbl := lw_at lw_m2 127 rfl
theorem q488 : (Jvm.Cond.fieldLink "java/lang/Throwable" (20 : Nat) "java/lang/Throwable" "SUPPRESSED_SENTINEL" "Ljava/util/List;") ∈ lw_all := lw_g (lw_at lw_m2 128 rfl) rfl
theorem q489 : (Jvm.Cond.laysStatic "java/lang/Throwable" "SUPPRESSED_SENTINEL" "Ljava/util/List;") ∈ lw_tbl := lw_at lw_m2 129 rfl
theorem q490 : (Jvm.Cond.methodLink "java/lang/Throwable" (27 : Nat) ({ cls := "java/lang/Throwable", name := "fillInStackTrace", desc := "()Ljava/lang/Throwable;" } : Jvm.MethodName)) ∈ lw_all := lw_g (lw_at lw_m2 130 rfl) rfl
theorem q491 : (Jvm.Cond.instanceMethod ({ cls := "java/lang/Throwable", name := "fillInStackTrace", desc := "()Ljava/lang/Throwable;" } : Jvm.MethodName)) ∈ lw_all := lw_g (lw_at lw_m2 131 rfl) rfl
theorem q492 : (Jvm.Cond.sameMethod "java/lang/Throwable" "java/lang/Throwable" "fillInStackTrace" "()Ljava/lang/Throwable;") ∈ lw_all := lw_g (lw_at lw_m2 132 rfl) rfl
theorem q493 : (Jvm.Cond.codeSync ({ cls := "java/lang/Throwable", name := "fillInStackTrace", desc := "()Ljava/lang/Throwable;" } : Jvm.MethodName) prog_36_method_18_code (1 : Nat) (Option.some (Jvm.ClassFile.FieldType.object "java/lang/Throwable"))) ∈ lw_all := lw_g (lw_at lw_m2 133 rfl) rfl
theorem q494 : (Jvm.Cond.methodLink "java/lang/Throwable" (202 : Nat) ({ cls := "java/lang/Throwable", name := "fillInStackTrace", desc := "(I)Ljava/lang/Throwable;" } : Jvm.MethodName)) ∈ lw_all := lw_g (lw_at lw_m2 134 rfl) rfl
theorem q495 : (Jvm.Cond.privateMethod ({ cls := "java/lang/Throwable", name := "fillInStackTrace", desc := "(I)Ljava/lang/Throwable;" } : Jvm.MethodName)) ∈ lw_tbl := lw_at lw_m2 135 rfl
theorem q496 : (Jvm.Cond.instanceMethod ({ cls := "java/lang/Throwable", name := "fillInStackTrace", desc := "(I)Ljava/lang/Throwable;" } : Jvm.MethodName)) ∈ lw_all := lw_g (lw_at lw_m2 136 rfl) rfl
theorem q497 : (Jvm.Cond.instantiable "java/lang/Throwable" (6 : Nat)) ∈ lw_all := lw_g (lw_at lw_m2 137 rfl) rfl
theorem q498 : (Jvm.Cond.native ({ cls := "java/lang/Throwable", name := "fillInStackTrace", desc := "(I)Ljava/lang/Throwable;" } : Jvm.MethodName)) ∈ lw_all := lw_g (lw_at lw_m2 138 rfl) rfl
theorem q510 : (Jvm.Cond.fieldLink "java/lang/Throwable" (198 : Nat) "java/lang/Throwable" "backtrace" "Ljava/lang/Object;") ∈ lw_all := lw_g (lw_at lw_m2 150 rfl) rfl
theorem q511 : (Jvm.Cond.fieldLink "java/lang/Throwable" (7 : Nat) "java/lang/Throwable" "cause" "Ljava/lang/Throwable;") ∈ lw_all := lw_g (lw_at lw_m2 151 rfl) rfl
theorem q512 : (Jvm.Cond.fieldLink "java/lang/Throwable" (17 : Nat) "java/lang/Throwable" "stackTrace" "[Ljava/lang/StackTraceElement;") ∈ lw_all := lw_g (lw_at lw_m2 152 rfl) rfl
theorem q513 : (Jvm.Cond.fieldLink "java/lang/Throwable" (24 : Nat) "java/lang/Throwable" "suppressedExceptions" "Ljava/util/List;") ∈ lw_all := lw_g (lw_at lw_m2 153 rfl) rfl
theorem q518 : (Jvm.Cond.soleField "java/lang/Throwable" "backtrace") ∈ lw_all := lw_g (lw_at lw_m2 158 rfl) rfl
theorem q519 : (Jvm.Cond.soleField "java/lang/Throwable" "detailMessage") ∈ lw_all := lw_g (lw_at lw_m2 159 rfl) rfl
theorem q520 : (Jvm.Cond.soleField "java/lang/Throwable" "cause") ∈ lw_all := lw_g (lw_at lw_m2 160 rfl) rfl
theorem q521 : (Jvm.Cond.soleField "java/lang/Throwable" "stackTrace") ∈ lw_all := lw_g (lw_at lw_m2 161 rfl) rfl
theorem q523 : (Jvm.Cond.soleField "java/lang/Throwable" "depth") ∈ lw_all := lw_g (lw_at lw_m2 163 rfl) rfl
theorem q524 : (Jvm.Cond.soleField "java/lang/Throwable" "suppressedExceptions") ∈ lw_all := lw_g (lw_at lw_m2 164 rfl) rfl
theorem q2013 : (Jvm.Cond.sameMethod "java/lang/Throwable" "java/lang/Throwable" "fillInStackTrace" "(I)Ljava/lang/Throwable;") ∈ lw_all := lw_g (lw_at lw_m8 213 rfl) rfl
theorem q2036 : (Jvm.Cond.castable "java/lang/Throwable" "java/lang/Object") ∈ lw_tbl := lw_at lw_m8 236 rfl
theorem in_J9 : ∀ w ∈ wsJ90, w ∈ lw_all := lw_in wsJ90 [472, 474, 476, 478, 480] (by decide +kernel) (by decide +kernel)
/-! java/lang/Exception -/
set_option maxRecDepth 100000
def RJ10 : String := "java/lang/Exception"
abbrev cJ10_init : ByteArray := prog_25_method_1_code
def yJ10_init : MethodName := ⟨RJ10, "<init>", "()V"⟩
theorem dJ10_init_0 : decode cJ10_init 0 = .ok (.aload_n 0, 1) := by decide +kernel
theorem dJ10_init_1 : decode cJ10_init 1 = .ok (.invokespecial 1, 3) := by decide +kernel
theorem dJ10_init_4 : decode cJ10_init 4 = .ok (.return_, 1) := by decide +kernel
theorem q137 : (Jvm.Cond.initialized "java/lang/Exception") ∈ lw_all := lw_g (lw_at lw_m1 17 rfl) rfl
theorem q465 : (Jvm.Cond.declares ({ cls := "java/lang/Exception", name := "<init>", desc := "()V" } : Jvm.MethodName)) ∈ lw_tbl := lw_at lw_m2 105 rfl
theorem q466 : (Jvm.Cond.declares ({ cls := "java/lang/Exception", name := "<init>", desc := "(Ljava/lang/String;)V" } : Jvm.MethodName)) ∈ lw_tbl := lw_at lw_m2 106 rfl
theorem q503 : (Jvm.Cond.instanceMethod ({ cls := "java/lang/Exception", name := "<init>", desc := "()V" } : Jvm.MethodName)) ∈ lw_all := lw_g (lw_at lw_m2 143 rfl) rfl
theorem q504 : (Jvm.Cond.code ({ cls := "java/lang/Exception", name := "<init>", desc := "()V" } : Jvm.MethodName) prog_25_method_1_code (1 : Nat) (Option.none : Option Jvm.ClassFile.FieldType)) ∈ lw_all := lw_g (lw_at lw_m2 144 rfl) rfl
theorem q505 : (Jvm.Cond.methodLink "java/lang/Exception" (1 : Nat) ({ cls := "java/lang/Throwable", name := "<init>", desc := "()V" } : Jvm.MethodName)) ∈ lw_all := lw_g (lw_at lw_m2 145 rfl) rfl
/-! java/lang/Record -/
set_option maxRecDepth 100000
def RJ11 : String := "java/lang/Record"
abbrev cJ11_init : ByteArray := prog_31_method_1_code
def yJ11_init : MethodName := ⟨RJ11, "<init>", "()V"⟩
theorem dJ11_init_0 : decode cJ11_init 0 = .ok (.aload_n 0, 1) := by decide +kernel
theorem dJ11_init_1 : decode cJ11_init 1 = .ok (.invokespecial 1, 3) := by decide +kernel
theorem dJ11_init_4 : decode cJ11_init 4 = .ok (.return_, 1) := by decide +kernel
theorem q140 : (Jvm.Cond.initialized "java/lang/Record") ∈ lw_all := lw_g (lw_at lw_m1 20 rfl) rfl
theorem q550 : (Jvm.Cond.instanceMethod ({ cls := "java/lang/Record", name := "<init>", desc := "()V" } : Jvm.MethodName)) ∈ lw_all := lw_g (lw_at lw_m2 190 rfl) rfl
theorem q551 : (Jvm.Cond.code ({ cls := "java/lang/Record", name := "<init>", desc := "()V" } : Jvm.MethodName) prog_31_method_1_code (1 : Nat) (Option.none : Option Jvm.ClassFile.FieldType)) ∈ lw_all := lw_g (lw_at lw_m2 191 rfl) rfl
theorem q552 : (Jvm.Cond.methodLink "java/lang/Record" (1 : Nat) ({ cls := "java/lang/Object", name := "<init>", desc := "()V" } : Jvm.MethodName)) ∈ lw_all := lw_g (lw_at lw_m2 192 rfl) rfl
/-! jdk/internal/util/ArraysSupport -/
set_option maxRecDepth 100000
def RJ12 : String := "jdk/internal/util/ArraysSupport"
abbrev cJ12_newLength : ByteArray := prog_48_method_27_code
def yJ12_newLength : MethodName := ⟨RJ12, "newLength", "(III)I"⟩
def dkwJ12_newLength_1 : List UInt8 := [184, 0, 201, 172]
abbrev dktJ12_newLength_1 : List UInt8 := dkwJ12_newLength_1 ++ []
def dkwJ12_newLength_0 : List UInt8 := [26, 27, 28, 184, 0, 194, 96, 62, 3, 29, 162, 0, 11, 29, 18, 200, 163, 0, 5, 29, 172, 26, 27]
abbrev dktJ12_newLength_0 : List UInt8 := dkwJ12_newLength_0 ++ dktJ12_newLength_1
theorem dksJ12_newLength_0 : cJ12_newLength.data.toList.drop 0 = dktJ12_newLength_0 := by decide +kernel
theorem dksJ12_newLength_1 : cJ12_newLength.data.toList.drop 23 = dktJ12_newLength_1 := dk_seg dksJ12_newLength_0 23 rfl rfl
theorem dJ12_newLength_0 : decode cJ12_newLength 0 = .ok (.iload_n 0, 1) := dk_26 (dk_at dksJ12_newLength_0 0 rfl rfl)
theorem dJ12_newLength_1 : decode cJ12_newLength 1 = .ok (.iload_n 1, 1) := dk_27 (dk_at dksJ12_newLength_0 1 rfl rfl)
theorem dJ12_newLength_2 : decode cJ12_newLength 2 = .ok (.iload_n 2, 1) := dk_28 (dk_at dksJ12_newLength_0 2 rfl rfl)
theorem dJ12_newLength_3 : decode cJ12_newLength 3 = .ok (.invokestatic 194, 3) := dk_184 0 194 (dk_at dksJ12_newLength_0 3 rfl rfl)
theorem dJ12_newLength_6 : decode cJ12_newLength 6 = .ok (.iadd, 1) := dk_96 (dk_at dksJ12_newLength_0 6 rfl rfl)
theorem dJ12_newLength_7 : decode cJ12_newLength 7 = .ok (.istore_n 3, 1) := dk_62 (dk_at dksJ12_newLength_0 7 rfl rfl)
theorem dJ12_newLength_8 : decode cJ12_newLength 8 = .ok (.iconst 0, 1) := dk_3 (dk_at dksJ12_newLength_0 8 rfl rfl)
theorem dJ12_newLength_9 : decode cJ12_newLength 9 = .ok (.iload_n 3, 1) := dk_29 (dk_at dksJ12_newLength_0 9 rfl rfl)
theorem dJ12_newLength_10 : decode cJ12_newLength 10 = .ok (.if_icmp .ge 11, 3) := dk_162 0 11 (dk_at dksJ12_newLength_0 10 rfl rfl)
theorem dJ12_newLength_13 : decode cJ12_newLength 13 = .ok (.iload_n 3, 1) := dk_29 (dk_at dksJ12_newLength_0 13 rfl rfl)
theorem dJ12_newLength_14 : decode cJ12_newLength 14 = .ok (.ldc 200, 2) := dk_18 200 (dk_at dksJ12_newLength_0 14 rfl rfl)
theorem dJ12_newLength_16 : decode cJ12_newLength 16 = .ok (.if_icmp .gt 5, 3) := dk_163 0 5 (dk_at dksJ12_newLength_0 16 rfl rfl)
theorem dJ12_newLength_19 : decode cJ12_newLength 19 = .ok (.iload_n 3, 1) := dk_29 (dk_at dksJ12_newLength_0 19 rfl rfl)
theorem dJ12_newLength_20 : decode cJ12_newLength 20 = .ok (.ireturn, 1) := dk_172 (dk_at dksJ12_newLength_0 20 rfl rfl)
theorem dJ12_newLength_21 : decode cJ12_newLength 21 = .ok (.iload_n 0, 1) := dk_26 (dk_at dksJ12_newLength_0 21 rfl rfl)
theorem dJ12_newLength_22 : decode cJ12_newLength 22 = .ok (.iload_n 1, 1) := dk_27 (dk_at dksJ12_newLength_0 22 rfl rfl)
theorem dJ12_newLength_23 : decode cJ12_newLength 23 = .ok (.invokestatic 201, 3) := dk_184 0 201 (dk_at dksJ12_newLength_1 0 rfl rfl)
theorem dJ12_newLength_26 : decode cJ12_newLength 26 = .ok (.ireturn, 1) := dk_172 (dk_at dksJ12_newLength_1 3 rfl rfl)
abbrev cJ12_hugeLength : ByteArray := prog_48_method_28_code
def yJ12_hugeLength : MethodName := ⟨RJ12, "hugeLength", "(II)I"⟩
def dkwJ12_hugeLength_2 : List UInt8 := [191, 28, 18, 200, 163, 0, 6, 18, 200, 172, 28, 172]
abbrev dktJ12_hugeLength_2 : List UInt8 := dkwJ12_hugeLength_2 ++ []
def dkwJ12_hugeLength_1 : List UInt8 := [26, 182, 0, 98, 18, 208, 182, 0, 94, 27, 182, 0, 98, 18, 210, 182, 0, 94, 182, 0, 101, 183, 0, 212]
abbrev dktJ12_hugeLength_1 : List UInt8 := dkwJ12_hugeLength_1 ++ dktJ12_hugeLength_2
def dkwJ12_hugeLength_0 : List UInt8 := [26, 27, 96, 61, 28, 156, 0, 44, 187, 0, 204, 89, 187, 0, 89, 89, 183, 0, 91, 18, 206, 182, 0, 94]
abbrev dktJ12_hugeLength_0 : List UInt8 := dkwJ12_hugeLength_0 ++ dktJ12_hugeLength_1
theorem dksJ12_hugeLength_0 : cJ12_hugeLength.data.toList.drop 0 = dktJ12_hugeLength_0 := by decide +kernel
theorem dksJ12_hugeLength_1 : cJ12_hugeLength.data.toList.drop 24 = dktJ12_hugeLength_1 := dk_seg dksJ12_hugeLength_0 24 rfl rfl
theorem dksJ12_hugeLength_2 : cJ12_hugeLength.data.toList.drop 48 = dktJ12_hugeLength_2 := dk_seg dksJ12_hugeLength_1 24 rfl rfl
theorem dJ12_hugeLength_0 : decode cJ12_hugeLength 0 = .ok (.iload_n 0, 1) := dk_26 (dk_at dksJ12_hugeLength_0 0 rfl rfl)
theorem dJ12_hugeLength_1 : decode cJ12_hugeLength 1 = .ok (.iload_n 1, 1) := dk_27 (dk_at dksJ12_hugeLength_0 1 rfl rfl)
theorem dJ12_hugeLength_2 : decode cJ12_hugeLength 2 = .ok (.iadd, 1) := dk_96 (dk_at dksJ12_hugeLength_0 2 rfl rfl)
theorem dJ12_hugeLength_3 : decode cJ12_hugeLength 3 = .ok (.istore_n 2, 1) := dk_61 (dk_at dksJ12_hugeLength_0 3 rfl rfl)
theorem dJ12_hugeLength_4 : decode cJ12_hugeLength 4 = .ok (.iload_n 2, 1) := dk_28 (dk_at dksJ12_hugeLength_0 4 rfl rfl)
theorem dJ12_hugeLength_5 : decode cJ12_hugeLength 5 = .ok (.ifCond .ge 44, 3) := dk_156 0 44 (dk_at dksJ12_hugeLength_0 5 rfl rfl)
theorem dJ12_hugeLength_8 : decode cJ12_hugeLength 8 = .ok (.new 204, 3) := dk_187 0 204 (dk_at dksJ12_hugeLength_0 8 rfl rfl)
theorem dJ12_hugeLength_11 : decode cJ12_hugeLength 11 = .ok (.dup, 1) := dk_89 (dk_at dksJ12_hugeLength_0 11 rfl rfl)
theorem dJ12_hugeLength_12 : decode cJ12_hugeLength 12 = .ok (.new 89, 3) := dk_187 0 89 (dk_at dksJ12_hugeLength_0 12 rfl rfl)
theorem dJ12_hugeLength_15 : decode cJ12_hugeLength 15 = .ok (.dup, 1) := dk_89 (dk_at dksJ12_hugeLength_0 15 rfl rfl)
theorem dJ12_hugeLength_16 : decode cJ12_hugeLength 16 = .ok (.invokespecial 91, 3) := dk_183 0 91 (dk_at dksJ12_hugeLength_0 16 rfl rfl)
theorem dJ12_hugeLength_19 : decode cJ12_hugeLength 19 = .ok (.ldc 206, 2) := dk_18 206 (dk_at dksJ12_hugeLength_0 19 rfl rfl)
theorem dJ12_hugeLength_21 : decode cJ12_hugeLength 21 = .ok (.invokevirtual 94, 3) := dk_182 0 94 (dk_at dksJ12_hugeLength_0 21 rfl rfl)
theorem dJ12_hugeLength_24 : decode cJ12_hugeLength 24 = .ok (.iload_n 0, 1) := dk_26 (dk_at dksJ12_hugeLength_1 0 rfl rfl)
theorem dJ12_hugeLength_25 : decode cJ12_hugeLength 25 = .ok (.invokevirtual 98, 3) := dk_182 0 98 (dk_at dksJ12_hugeLength_1 1 rfl rfl)
theorem dJ12_hugeLength_28 : decode cJ12_hugeLength 28 = .ok (.ldc 208, 2) := dk_18 208 (dk_at dksJ12_hugeLength_1 4 rfl rfl)
theorem dJ12_hugeLength_30 : decode cJ12_hugeLength 30 = .ok (.invokevirtual 94, 3) := dk_182 0 94 (dk_at dksJ12_hugeLength_1 6 rfl rfl)
theorem dJ12_hugeLength_33 : decode cJ12_hugeLength 33 = .ok (.iload_n 1, 1) := dk_27 (dk_at dksJ12_hugeLength_1 9 rfl rfl)
theorem dJ12_hugeLength_34 : decode cJ12_hugeLength 34 = .ok (.invokevirtual 98, 3) := dk_182 0 98 (dk_at dksJ12_hugeLength_1 10 rfl rfl)
theorem dJ12_hugeLength_37 : decode cJ12_hugeLength 37 = .ok (.ldc 210, 2) := dk_18 210 (dk_at dksJ12_hugeLength_1 13 rfl rfl)
theorem dJ12_hugeLength_39 : decode cJ12_hugeLength 39 = .ok (.invokevirtual 94, 3) := dk_182 0 94 (dk_at dksJ12_hugeLength_1 15 rfl rfl)
theorem dJ12_hugeLength_42 : decode cJ12_hugeLength 42 = .ok (.invokevirtual 101, 3) := dk_182 0 101 (dk_at dksJ12_hugeLength_1 18 rfl rfl)
theorem dJ12_hugeLength_45 : decode cJ12_hugeLength 45 = .ok (.invokespecial 212, 3) := dk_183 0 212 (dk_at dksJ12_hugeLength_1 21 rfl rfl)
theorem dJ12_hugeLength_48 : decode cJ12_hugeLength 48 = .ok (.athrow, 1) := dk_191 (dk_at dksJ12_hugeLength_2 0 rfl rfl)
theorem dJ12_hugeLength_49 : decode cJ12_hugeLength 49 = .ok (.iload_n 2, 1) := dk_28 (dk_at dksJ12_hugeLength_2 1 rfl rfl)
theorem dJ12_hugeLength_50 : decode cJ12_hugeLength 50 = .ok (.ldc 200, 2) := dk_18 200 (dk_at dksJ12_hugeLength_2 2 rfl rfl)
theorem dJ12_hugeLength_52 : decode cJ12_hugeLength 52 = .ok (.if_icmp .gt 6, 3) := dk_163 0 6 (dk_at dksJ12_hugeLength_2 4 rfl rfl)
theorem dJ12_hugeLength_55 : decode cJ12_hugeLength 55 = .ok (.ldc 200, 2) := dk_18 200 (dk_at dksJ12_hugeLength_2 7 rfl rfl)
theorem dJ12_hugeLength_57 : decode cJ12_hugeLength 57 = .ok (.ireturn, 1) := dk_172 (dk_at dksJ12_hugeLength_2 9 rfl rfl)
theorem dJ12_hugeLength_58 : decode cJ12_hugeLength 58 = .ok (.iload_n 2, 1) := dk_28 (dk_at dksJ12_hugeLength_2 10 rfl rfl)
theorem dJ12_hugeLength_59 : decode cJ12_hugeLength 59 = .ok (.ireturn, 1) := dk_172 (dk_at dksJ12_hugeLength_2 11 rfl rfl)
theorem q144 : (Jvm.Cond.initialized "jdk/internal/util/ArraysSupport") ∈ lw_all := lw_g (lw_at lw_m1 24 rfl) rfl
theorem q622 : (Jvm.Cond.static ({ cls := "jdk/internal/util/ArraysSupport", name := "newLength", desc := "(III)I" } : Jvm.MethodName)) ∈ lw_all := lw_g (lw_at lw_m3 22 rfl) rfl
theorem q623 : (Jvm.Cond.code ({ cls := "jdk/internal/util/ArraysSupport", name := "newLength", desc := "(III)I" } : Jvm.MethodName) prog_48_method_27_code (4 : Nat) (Option.some Jvm.ClassFile.FieldType.int)) ∈ lw_all := lw_g (lw_at lw_m3 23 rfl) rfl
theorem q624 : (Jvm.Cond.methodLink "jdk/internal/util/ArraysSupport" (194 : Nat) ({ cls := "java/lang/Math", name := "max", desc := "(II)I" } : Jvm.MethodName)) ∈ lw_all := lw_g (lw_at lw_m3 24 rfl) rfl
theorem q627 : (Jvm.Cond.constant "jdk/internal/util/ArraysSupport" (200 : Nat) (2147483639 : Int32)) ∈ lw_all := lw_g (lw_at lw_m3 27 rfl) rfl
theorem q628 : (Jvm.Cond.methodLink "jdk/internal/util/ArraysSupport" (201 : Nat) ({ cls := "jdk/internal/util/ArraysSupport", name := "hugeLength", desc := "(II)I" } : Jvm.MethodName)) ∈ lw_all := lw_g (lw_at lw_m3 28 rfl) rfl
theorem q629 : (Jvm.Cond.static ({ cls := "jdk/internal/util/ArraysSupport", name := "hugeLength", desc := "(II)I" } : Jvm.MethodName)) ∈ lw_all := lw_g (lw_at lw_m3 29 rfl) rfl
theorem q630 : (Jvm.Cond.code ({ cls := "jdk/internal/util/ArraysSupport", name := "hugeLength", desc := "(II)I" } : Jvm.MethodName) prog_48_method_28_code (3 : Nat) (Option.some Jvm.ClassFile.FieldType.int)) ∈ lw_all := lw_g (lw_at lw_m3 30 rfl) rfl
/-! java/util/Objects -/
set_option maxRecDepth 100000
def RJ13 : String := "java/util/Objects"
abbrev cJ13_checkIndex : ByteArray := prog_45_method_17_code
def yJ13_checkIndex : MethodName := ⟨RJ13, "checkIndex", "(II)I"⟩
def dkwJ13_checkIndex_0 : List UInt8 := [26, 27, 1, 184, 0, 105, 172]
abbrev dktJ13_checkIndex_0 : List UInt8 := dkwJ13_checkIndex_0 ++ []
theorem dksJ13_checkIndex_0 : cJ13_checkIndex.data.toList.drop 0 = dktJ13_checkIndex_0 := by decide +kernel
theorem dJ13_checkIndex_0 : decode cJ13_checkIndex 0 = .ok (.iload_n 0, 1) := dk_26 (dk_at dksJ13_checkIndex_0 0 rfl rfl)
theorem dJ13_checkIndex_1 : decode cJ13_checkIndex 1 = .ok (.iload_n 1, 1) := dk_27 (dk_at dksJ13_checkIndex_0 1 rfl rfl)
theorem dJ13_checkIndex_2 : decode cJ13_checkIndex 2 = .ok (.aconst_null, 1) := dk_1 (dk_at dksJ13_checkIndex_0 2 rfl rfl)
theorem dJ13_checkIndex_3 : decode cJ13_checkIndex 3 = .ok (.invokestatic 105, 3) := dk_184 0 105 (dk_at dksJ13_checkIndex_0 3 rfl rfl)
theorem dJ13_checkIndex_6 : decode cJ13_checkIndex 6 = .ok (.ireturn, 1) := dk_172 (dk_at dksJ13_checkIndex_0 6 rfl rfl)
theorem q145 : (Jvm.Cond.initialized "java/util/Objects") ∈ lw_all := lw_g (lw_at lw_m1 25 rfl) rfl
theorem q676 : (Jvm.Cond.static ({ cls := "java/util/Objects", name := "checkIndex", desc := "(II)I" } : Jvm.MethodName)) ∈ lw_all := lw_g (lw_at lw_m3 76 rfl) rfl
theorem q677 : (Jvm.Cond.code ({ cls := "java/util/Objects", name := "checkIndex", desc := "(II)I" } : Jvm.MethodName) prog_45_method_17_code (2 : Nat) (Option.some Jvm.ClassFile.FieldType.int)) ∈ lw_all := lw_g (lw_at lw_m3 77 rfl) rfl
theorem q678 : (Jvm.Cond.methodLink "java/util/Objects" (105 : Nat) ({ cls := "jdk/internal/util/Preconditions", name := "checkIndex", desc := "(IILjava/util/function/BiFunction;)I" } : Jvm.MethodName)) ∈ lw_all := lw_g (lw_at lw_m3 78 rfl) rfl
/-! java/lang/Number -/
set_option maxRecDepth 100000
def RJ14 : String := "java/lang/Number"
abbrev cJ14_init : ByteArray := prog_30_method_1_code
def yJ14_init : MethodName := ⟨RJ14, "<init>", "()V"⟩
theorem dJ14_init_0 : decode cJ14_init 0 = .ok (.aload_n 0, 1) := by decide +kernel
theorem dJ14_init_1 : decode cJ14_init 1 = .ok (.invokespecial 1, 3) := by decide +kernel
theorem dJ14_init_4 : decode cJ14_init 4 = .ok (.return_, 1) := by decide +kernel
theorem q152 : (Jvm.Cond.initialized "java/lang/Number") ∈ lw_all := lw_g (lw_at lw_m1 32 rfl) rfl
theorem q807 : (Jvm.Cond.instanceMethod ({ cls := "java/lang/Number", name := "<init>", desc := "()V" } : Jvm.MethodName)) ∈ lw_all := lw_g (lw_at lw_m3 207 rfl) rfl
theorem q808 : (Jvm.Cond.code ({ cls := "java/lang/Number", name := "<init>", desc := "()V" } : Jvm.MethodName) prog_30_method_1_code (1 : Nat) (Option.none : Option Jvm.ClassFile.FieldType)) ∈ lw_all := lw_g (lw_at lw_m3 208 rfl) rfl
theorem q809 : (Jvm.Cond.methodLink "java/lang/Number" (1 : Nat) ({ cls := "java/lang/Object", name := "<init>", desc := "()V" } : Jvm.MethodName)) ∈ lw_all := lw_g (lw_at lw_m3 209 rfl) rfl
/-! java/lang/Object -/
set_option maxRecDepth 100000
def RJ16 : String := "java/lang/Object"
abbrev cJ16_init : ByteArray := object_method_1_code
def yJ16_init : MethodName := ⟨RJ16, "<init>", "()V"⟩
theorem dJ16_init_0 : decode cJ16_init 0 = .ok (.return_, 1) := by decide +kernel
theorem q162 : (Jvm.Cond.instanceMethod ({ cls := "java/lang/Object", name := "<init>", desc := "()V" } : Jvm.MethodName)) ∈ lw_all := lw_g (lw_at lw_m1 42 rfl) rfl
theorem q163 : (Jvm.Cond.code ({ cls := "java/lang/Object", name := "<init>", desc := "()V" } : Jvm.MethodName) object_method_1_code (1 : Nat) (Option.none : Option Jvm.ClassFile.FieldType)) ∈ lw_all := lw_g (lw_at lw_m1 43 rfl) rfl
theorem q635 : (Jvm.Cond.instanceMethod ({ cls := "java/lang/Object", name := "getClass", desc := "()Ljava/lang/Class;" } : Jvm.MethodName)) ∈ lw_all := lw_g (lw_at lw_m3 35 rfl) rfl
theorem q636 : (Jvm.Cond.sameMethod "java/lang/Object" "java/lang/Object" "getClass" "()Ljava/lang/Class;") ∈ lw_all := lw_g (lw_at lw_m3 36 rfl) rfl
theorem q656 : (Jvm.Cond.native ({ cls := "java/lang/Object", name := "getClass", desc := "()Ljava/lang/Class;" } : Jvm.MethodName)) ∈ lw_all := lw_g (lw_at lw_m3 56 rfl) rfl
theorem q2014 : (Jvm.Cond.initialized "java/lang/Object") ∈ lw_all := lw_g (lw_at lw_m8 214 rfl) rfl
theorem q2039 : (Jvm.Cond.declares ({ cls := "java/lang/Object", name := "getClass", desc := "()Ljava/lang/Class;" } : Jvm.MethodName)) ∈ lw_tbl := lw_at lw_m8 239 rfl
theorem q2043 : (Jvm.Cond.castable "[B" "java/lang/Object") ∈ lw_tbl := lw_at lw_m9 3 rfl
set_option maxRecDepth 100000
theorem q2046 : (Jvm.Cond.castable "[J" "java/lang/Object") ∈ lw_tbl := lw_at lw_m9 6 rfl
set_option maxRecDepth 100000
theorem q2047 : (Jvm.Cond.castable "[Z" "java/lang/Object") ∈ lw_tbl := lw_at lw_m9 7 rfl
set_option maxRecDepth 100000
theorem q2044 : (Jvm.Cond.castable "[LRailingsCount$Sum;" "java/lang/Object") ∈ lw_tbl := lw_at lw_m9 4 rfl
set_option maxRecDepth 100000
theorem q2041 : (Jvm.Cond.castable "[LRailingsCount$Text;" "java/lang/Object") ∈ lw_tbl := lw_at lw_m9 1 rfl
set_option maxRecDepth 100000
theorem q2037 : (Jvm.Cond.sameMethod "[Ljava/lang/Object;" "java/lang/Object" "getClass" "()Ljava/lang/Class;") ∈ lw_all := lw_g (lw_at lw_m8 237 rfl) rfl
set_option maxRecDepth 100000
theorem q2038 : (Jvm.Cond.selects "[Ljava/lang/Object;" ({ cls := "java/lang/Object", name := "getClass", desc := "()Ljava/lang/Class;" } : Jvm.MethodName) ({ cls := "java/lang/Object", name := "getClass", desc := "()Ljava/lang/Class;" } : Jvm.MethodName)) ∈ lw_all := lw_g (lw_at lw_m8 238 rfl) rfl
theorem q2045 : (Jvm.Cond.castable "[Ljava/lang/Object;" "java/lang/Object") ∈ lw_tbl := lw_at lw_m9 5 rfl
theorem q2048 : (Jvm.Cond.castable "[Ljava/lang/String;" "java/lang/Object") ∈ lw_tbl := lw_at lw_m9 8 rfl
set_option maxRecDepth 100000
theorem q2040 : (Jvm.Cond.castable "[[I" "java/lang/Object") ∈ lw_tbl := lw_at lw_m9 0 rfl
set_option maxRecDepth 100000
theorem q154 : (Jvm.Cond.initialized "java/lang/Integer$IntegerCache") ∈ lw_all := lw_g (lw_at lw_m1 34 rfl) rfl
set_option maxRecDepth 100000
theorem q798 : (Jvm.Cond.laysStatic "java/lang/Integer$IntegerCache" "high" "I") ∈ lw_tbl := lw_at lw_m3 198 rfl
theorem q800 : (Jvm.Cond.laysStatic "java/lang/Integer$IntegerCache" "cache" "[Ljava/lang/Integer;") ∈ lw_tbl := lw_at lw_m3 200 rfl
theorem q906 : (Jvm.Cond.interfaceMethod "RailingsCount$Sum" "RailingsCount$Sum" "of" "([I)J") ∈ lw_tbl := lw_at lw_m4 66 rfl
set_option maxRecDepth 100000
theorem q907 : (Jvm.Cond.declares ({ cls := "RailingsCount$Sum", name := "of", desc := "([I)J" } : Jvm.MethodName)) ∈ lw_tbl := lw_at lw_m4 67 rfl
theorem q2016 : (Jvm.Cond.castable "RailingsCount$Sum" "java/lang/Object") ∈ lw_tbl := lw_at lw_m8 216 rfl
theorem q924 : (Jvm.Cond.interfaceMethod "RailingsCount$Asked" "RailingsCount$Asked" "is" "([I)Z") ∈ lw_tbl := lw_at lw_m4 84 rfl
set_option maxRecDepth 100000
theorem q925 : (Jvm.Cond.declares ({ cls := "RailingsCount$Asked", name := "is", desc := "([I)Z" } : Jvm.MethodName)) ∈ lw_tbl := lw_at lw_m4 85 rfl
