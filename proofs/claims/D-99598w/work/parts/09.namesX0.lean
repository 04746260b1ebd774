/-! RailingsCount -/
set_option maxRecDepth 100000
def RX0 : String := "RailingsCount"
def TX0 : u_T := fun k => match k with
  | 0 => ("RailingsCount", "now", "LRailingsCount$State;", true)
  | 1 => ("RailingsCount", "image", "LRailingsCount$State;", true)
  | 2 => ("RailingsCount", "tape", "[B", true)
  | 3 => ("RailingsCount", "taped", "I", false)
  | 4 => ("RailingsCount", "fault", "I", false)
  | 5 => ("RailingsCount", "faultAt", "I", false)
  | 6 => ("RailingsCount", "names", "[I", true)
  | 7 => ("RailingsCount", "tried", "[I", true)
  | 8 => ("RailingsCount", "meets", "[I", true)
  | 9 => ("RailingsCount", "met", "I", false)
  | _ => ("RailingsCount", "costs", "[[I", true)
def tyX0 : Nat → FieldType := fun k => match k with
  | 0 => .object "RailingsCount$State"
  | 1 => .object "RailingsCount$State"
  | 2 => .array .byte
  | 3 => .int
  | 4 => .int
  | 5 => .int
  | 6 => .array .int
  | 7 => .array .int
  | 8 => .array .int
  | 9 => .int
  | _ => .array (.array .int)
abbrev wsX00 : List Cond := u_ws RX0 TX0 11
theorem nmX0 : ∀ a, a < 11 → ∀ b, b < 11 → a ≠ b → (TX0 a).2.1 ≠ (TX0 b).2.1 := by decide +kernel
theorem tyX0_ok : ∀ k, k < 11 → parseFieldDescriptor (TX0 k).2.2.1 = some (tyX0 k) := by decide +kernel
abbrev cX0_init : ByteArray := prog_1_method_4_code
def yX0_init : MethodName := ⟨RX0, "<init>", "()V"⟩
def dkwX0_init_3 : List UInt8 := [42, 16, 30, 16, 30, 197, 0, 49, 2, 181, 0, 51, 42, 180, 0, 25, 42, 180, 0, 21, 182, 0, 54, 177]
abbrev dktX0_init_3 : List UInt8 := dkwX0_init_3 ++ []
def dkwX0_init_2 : List UInt8 := [16, 38, 188, 10, 181, 0, 39, 42, 17, 0, 190, 188, 10, 181, 0, 43, 42, 16, 60, 188, 10, 181, 0, 46]
abbrev dktX0_init_2 : List UInt8 := dkwX0_init_2 ++ dktX0_init_3
def dkwX0_init_1 : List UInt8 := [181, 0, 25, 42, 17, 1, 44, 188, 8, 181, 0, 28, 42, 2, 181, 0, 32, 42, 2, 181, 0, 36, 42]
abbrev dktX0_init_1 : List UInt8 := dkwX0_init_1 ++ dktX0_init_2
def dkwX0_init_0 : List UInt8 := [42, 183, 0, 12, 42, 187, 0, 18, 89, 183, 0, 20, 181, 0, 21, 42, 187, 0, 18, 89, 183, 0, 20]
abbrev dktX0_init_0 : List UInt8 := dkwX0_init_0 ++ dktX0_init_1
theorem dksX0_init_0 : cX0_init.data.toList.drop 0 = dktX0_init_0 := by decide +kernel
theorem dksX0_init_1 : cX0_init.data.toList.drop 23 = dktX0_init_1 := dk_seg dksX0_init_0 23 rfl rfl
theorem dksX0_init_2 : cX0_init.data.toList.drop 46 = dktX0_init_2 := dk_seg dksX0_init_1 23 rfl rfl
theorem dksX0_init_3 : cX0_init.data.toList.drop 70 = dktX0_init_3 := dk_seg dksX0_init_2 24 rfl rfl
theorem dX0_init_0 : decode cX0_init 0 = .ok (.aload_n 0, 1) := dk_42 (dk_at dksX0_init_0 0 rfl rfl)
theorem dX0_init_1 : decode cX0_init 1 = .ok (.invokespecial 12, 3) := dk_183 0 12 (dk_at dksX0_init_0 1 rfl rfl)
theorem dX0_init_4 : decode cX0_init 4 = .ok (.aload_n 0, 1) := dk_42 (dk_at dksX0_init_0 4 rfl rfl)
theorem dX0_init_5 : decode cX0_init 5 = .ok (.new 18, 3) := dk_187 0 18 (dk_at dksX0_init_0 5 rfl rfl)
theorem dX0_init_8 : decode cX0_init 8 = .ok (.dup, 1) := dk_89 (dk_at dksX0_init_0 8 rfl rfl)
theorem dX0_init_9 : decode cX0_init 9 = .ok (.invokespecial 20, 3) := dk_183 0 20 (dk_at dksX0_init_0 9 rfl rfl)
theorem dX0_init_12 : decode cX0_init 12 = .ok (.putfield 21, 3) := dk_181 0 21 (dk_at dksX0_init_0 12 rfl rfl)
theorem dX0_init_15 : decode cX0_init 15 = .ok (.aload_n 0, 1) := dk_42 (dk_at dksX0_init_0 15 rfl rfl)
theorem dX0_init_16 : decode cX0_init 16 = .ok (.new 18, 3) := dk_187 0 18 (dk_at dksX0_init_0 16 rfl rfl)
theorem dX0_init_19 : decode cX0_init 19 = .ok (.dup, 1) := dk_89 (dk_at dksX0_init_0 19 rfl rfl)
theorem dX0_init_20 : decode cX0_init 20 = .ok (.invokespecial 20, 3) := dk_183 0 20 (dk_at dksX0_init_0 20 rfl rfl)
theorem dX0_init_23 : decode cX0_init 23 = .ok (.putfield 25, 3) := dk_181 0 25 (dk_at dksX0_init_1 0 rfl rfl)
theorem dX0_init_26 : decode cX0_init 26 = .ok (.aload_n 0, 1) := dk_42 (dk_at dksX0_init_1 3 rfl rfl)
theorem dX0_init_27 : decode cX0_init 27 = .ok (.sipush 300, 3) := dk_17 1 44 (dk_at dksX0_init_1 4 rfl rfl)
theorem dX0_init_30 : decode cX0_init 30 = .ok (.newarray .byte, 2) := dk_188_8 (dk_at dksX0_init_1 7 rfl rfl)
theorem dX0_init_32 : decode cX0_init 32 = .ok (.putfield 28, 3) := dk_181 0 28 (dk_at dksX0_init_1 9 rfl rfl)
theorem dX0_init_35 : decode cX0_init 35 = .ok (.aload_n 0, 1) := dk_42 (dk_at dksX0_init_1 12 rfl rfl)
theorem dX0_init_36 : decode cX0_init 36 = .ok (.iconst (-1), 1) := dk_2 (dk_at dksX0_init_1 13 rfl rfl)
theorem dX0_init_37 : decode cX0_init 37 = .ok (.putfield 32, 3) := dk_181 0 32 (dk_at dksX0_init_1 14 rfl rfl)
theorem dX0_init_40 : decode cX0_init 40 = .ok (.aload_n 0, 1) := dk_42 (dk_at dksX0_init_1 17 rfl rfl)
theorem dX0_init_41 : decode cX0_init 41 = .ok (.iconst (-1), 1) := dk_2 (dk_at dksX0_init_1 18 rfl rfl)
theorem dX0_init_42 : decode cX0_init 42 = .ok (.putfield 36, 3) := dk_181 0 36 (dk_at dksX0_init_1 19 rfl rfl)
theorem dX0_init_45 : decode cX0_init 45 = .ok (.aload_n 0, 1) := dk_42 (dk_at dksX0_init_1 22 rfl rfl)
theorem dX0_init_46 : decode cX0_init 46 = .ok (.bipush 38, 2) := dk_16 38 (dk_at dksX0_init_2 0 rfl rfl)
theorem dX0_init_48 : decode cX0_init 48 = .ok (.newarray .int, 2) := dk_188_10 (dk_at dksX0_init_2 2 rfl rfl)
theorem dX0_init_50 : decode cX0_init 50 = .ok (.putfield 39, 3) := dk_181 0 39 (dk_at dksX0_init_2 4 rfl rfl)
theorem dX0_init_53 : decode cX0_init 53 = .ok (.aload_n 0, 1) := dk_42 (dk_at dksX0_init_2 7 rfl rfl)
theorem dX0_init_54 : decode cX0_init 54 = .ok (.sipush 190, 3) := dk_17 0 190 (dk_at dksX0_init_2 8 rfl rfl)
theorem dX0_init_57 : decode cX0_init 57 = .ok (.newarray .int, 2) := dk_188_10 (dk_at dksX0_init_2 11 rfl rfl)
theorem dX0_init_59 : decode cX0_init 59 = .ok (.putfield 43, 3) := dk_181 0 43 (dk_at dksX0_init_2 13 rfl rfl)
theorem dX0_init_62 : decode cX0_init 62 = .ok (.aload_n 0, 1) := dk_42 (dk_at dksX0_init_2 16 rfl rfl)
theorem dX0_init_63 : decode cX0_init 63 = .ok (.bipush 60, 2) := dk_16 60 (dk_at dksX0_init_2 17 rfl rfl)
theorem dX0_init_65 : decode cX0_init 65 = .ok (.newarray .int, 2) := dk_188_10 (dk_at dksX0_init_2 19 rfl rfl)
theorem dX0_init_67 : decode cX0_init 67 = .ok (.putfield 46, 3) := dk_181 0 46 (dk_at dksX0_init_2 21 rfl rfl)
theorem dX0_init_70 : decode cX0_init 70 = .ok (.aload_n 0, 1) := dk_42 (dk_at dksX0_init_3 0 rfl rfl)
theorem dX0_init_71 : decode cX0_init 71 = .ok (.bipush 30, 2) := dk_16 30 (dk_at dksX0_init_3 1 rfl rfl)
theorem dX0_init_73 : decode cX0_init 73 = .ok (.bipush 30, 2) := dk_16 30 (dk_at dksX0_init_3 3 rfl rfl)
theorem dX0_init_75 : decode cX0_init 75 = .ok (.multianewarray 49 2, 4) := by decide +kernel
theorem dX0_init_79 : decode cX0_init 79 = .ok (.putfield 51, 3) := dk_181 0 51 (dk_at dksX0_init_3 9 rfl rfl)
theorem dX0_init_82 : decode cX0_init 82 = .ok (.aload_n 0, 1) := dk_42 (dk_at dksX0_init_3 12 rfl rfl)
theorem dX0_init_83 : decode cX0_init 83 = .ok (.getfield 25, 3) := dk_180 0 25 (dk_at dksX0_init_3 13 rfl rfl)
theorem dX0_init_86 : decode cX0_init 86 = .ok (.aload_n 0, 1) := dk_42 (dk_at dksX0_init_3 16 rfl rfl)
theorem dX0_init_87 : decode cX0_init 87 = .ok (.getfield 21, 3) := dk_180 0 21 (dk_at dksX0_init_3 17 rfl rfl)
theorem dX0_init_90 : decode cX0_init 90 = .ok (.invokevirtual 54, 3) := dk_182 0 54 (dk_at dksX0_init_3 20 rfl rfl)
theorem dX0_init_93 : decode cX0_init 93 = .ok (.return_, 1) := dk_177 (dk_at dksX0_init_3 23 rfl rfl)
abbrev cX0_bar : ByteArray := prog_1_method_8_code
def yX0_bar : MethodName := ⟨RX0, "bar", "(II)Z"⟩
def dkwX0_bar_1 : List UInt8 := [96, 28, 182, 0, 72, 4, 172]
abbrev dktX0_bar_1 : List UInt8 := dkwX0_bar_1 ++ []
def dkwX0_bar_0 : List UInt8 := [27, 184, 0, 68, 153, 0, 12, 28, 3, 6, 184, 0, 58, 154, 0, 5, 3, 172, 42, 180, 0, 21, 5, 27]
abbrev dktX0_bar_0 : List UInt8 := dkwX0_bar_0 ++ dktX0_bar_1
theorem dksX0_bar_0 : cX0_bar.data.toList.drop 0 = dktX0_bar_0 := by decide +kernel
theorem dksX0_bar_1 : cX0_bar.data.toList.drop 24 = dktX0_bar_1 := dk_seg dksX0_bar_0 24 rfl rfl
theorem dX0_bar_0 : decode cX0_bar 0 = .ok (.iload_n 1, 1) := dk_27 (dk_at dksX0_bar_0 0 rfl rfl)
theorem dX0_bar_1 : decode cX0_bar 1 = .ok (.invokestatic 68, 3) := dk_184 0 68 (dk_at dksX0_bar_0 1 rfl rfl)
theorem dX0_bar_4 : decode cX0_bar 4 = .ok (.ifCond .eq 12, 3) := dk_153 0 12 (dk_at dksX0_bar_0 4 rfl rfl)
theorem dX0_bar_7 : decode cX0_bar 7 = .ok (.iload_n 2, 1) := dk_28 (dk_at dksX0_bar_0 7 rfl rfl)
theorem dX0_bar_8 : decode cX0_bar 8 = .ok (.iconst 0, 1) := dk_3 (dk_at dksX0_bar_0 8 rfl rfl)
theorem dX0_bar_9 : decode cX0_bar 9 = .ok (.iconst 3, 1) := dk_6 (dk_at dksX0_bar_0 9 rfl rfl)
theorem dX0_bar_10 : decode cX0_bar 10 = .ok (.invokestatic 58, 3) := dk_184 0 58 (dk_at dksX0_bar_0 10 rfl rfl)
theorem dX0_bar_13 : decode cX0_bar 13 = .ok (.ifCond .ne 5, 3) := dk_154 0 5 (dk_at dksX0_bar_0 13 rfl rfl)
theorem dX0_bar_16 : decode cX0_bar 16 = .ok (.iconst 0, 1) := dk_3 (dk_at dksX0_bar_0 16 rfl rfl)
theorem dX0_bar_17 : decode cX0_bar 17 = .ok (.ireturn, 1) := dk_172 (dk_at dksX0_bar_0 17 rfl rfl)
theorem dX0_bar_18 : decode cX0_bar 18 = .ok (.aload_n 0, 1) := dk_42 (dk_at dksX0_bar_0 18 rfl rfl)
theorem dX0_bar_19 : decode cX0_bar 19 = .ok (.getfield 21, 3) := dk_180 0 21 (dk_at dksX0_bar_0 19 rfl rfl)
theorem dX0_bar_22 : decode cX0_bar 22 = .ok (.iconst 2, 1) := dk_5 (dk_at dksX0_bar_0 22 rfl rfl)
theorem dX0_bar_23 : decode cX0_bar 23 = .ok (.iload_n 1, 1) := dk_27 (dk_at dksX0_bar_0 23 rfl rfl)
theorem dX0_bar_24 : decode cX0_bar 24 = .ok (.iadd, 1) := dk_96 (dk_at dksX0_bar_1 0 rfl rfl)
theorem dX0_bar_25 : decode cX0_bar 25 = .ok (.iload_n 2, 1) := dk_28 (dk_at dksX0_bar_1 1 rfl rfl)
theorem dX0_bar_26 : decode cX0_bar 26 = .ok (.invokevirtual 72, 3) := dk_182 0 72 (dk_at dksX0_bar_1 2 rfl rfl)
theorem dX0_bar_29 : decode cX0_bar 29 = .ok (.iconst 1, 1) := dk_4 (dk_at dksX0_bar_1 5 rfl rfl)
theorem dX0_bar_30 : decode cX0_bar 30 = .ok (.ireturn, 1) := dk_172 (dk_at dksX0_bar_1 6 rfl rfl)
abbrev cX0_isPlace : ByteArray := prog_1_method_5_code
def yX0_isPlace : MethodName := ⟨RX0, "isPlace", "(I)Z"⟩
def dkwX0_isPlace_0 : List UInt8 := [26, 3, 16, 29, 184, 0, 58, 172]
abbrev dktX0_isPlace_0 : List UInt8 := dkwX0_isPlace_0 ++ []
theorem dksX0_isPlace_0 : cX0_isPlace.data.toList.drop 0 = dktX0_isPlace_0 := by decide +kernel
theorem dX0_isPlace_0 : decode cX0_isPlace 0 = .ok (.iload_n 0, 1) := dk_26 (dk_at dksX0_isPlace_0 0 rfl rfl)
theorem dX0_isPlace_1 : decode cX0_isPlace 1 = .ok (.iconst 0, 1) := dk_3 (dk_at dksX0_isPlace_0 1 rfl rfl)
theorem dX0_isPlace_2 : decode cX0_isPlace 2 = .ok (.bipush 29, 2) := dk_16 29 (dk_at dksX0_isPlace_0 2 rfl rfl)
theorem dX0_isPlace_4 : decode cX0_isPlace 4 = .ok (.invokestatic 58, 3) := dk_184 0 58 (dk_at dksX0_isPlace_0 4 rfl rfl)
theorem dX0_isPlace_7 : decode cX0_isPlace 7 = .ok (.ireturn, 1) := dk_172 (dk_at dksX0_isPlace_0 7 rfl rfl)
abbrev cX0_in : ByteArray := prog_1_method_1_code
def yX0_in : MethodName := ⟨RX0, "in", "(III)Z"⟩
def dkwX0_in_0 : List UInt8 := [26, 27, 161, 0, 12, 26, 28, 163, 0, 7, 4, 167, 0, 4, 3, 172]
abbrev dktX0_in_0 : List UInt8 := dkwX0_in_0 ++ []
theorem dksX0_in_0 : cX0_in.data.toList.drop 0 = dktX0_in_0 := by decide +kernel
theorem dX0_in_0 : decode cX0_in 0 = .ok (.iload_n 0, 1) := dk_26 (dk_at dksX0_in_0 0 rfl rfl)
theorem dX0_in_1 : decode cX0_in 1 = .ok (.iload_n 1, 1) := dk_27 (dk_at dksX0_in_0 1 rfl rfl)
theorem dX0_in_2 : decode cX0_in 2 = .ok (.if_icmp .lt 12, 3) := dk_161 0 12 (dk_at dksX0_in_0 2 rfl rfl)
theorem dX0_in_5 : decode cX0_in 5 = .ok (.iload_n 0, 1) := dk_26 (dk_at dksX0_in_0 5 rfl rfl)
theorem dX0_in_6 : decode cX0_in 6 = .ok (.iload_n 2, 1) := dk_28 (dk_at dksX0_in_0 6 rfl rfl)
theorem dX0_in_7 : decode cX0_in 7 = .ok (.if_icmp .gt 7, 3) := dk_163 0 7 (dk_at dksX0_in_0 7 rfl rfl)
theorem dX0_in_10 : decode cX0_in 10 = .ok (.iconst 1, 1) := dk_4 (dk_at dksX0_in_0 10 rfl rfl)
theorem dX0_in_11 : decode cX0_in 11 = .ok (.goto 4, 3) := dk_167 0 4 (dk_at dksX0_in_0 11 rfl rfl)
theorem dX0_in_14 : decode cX0_in 14 = .ok (.iconst 0, 1) := dk_3 (dk_at dksX0_in_0 14 rfl rfl)
theorem dX0_in_15 : decode cX0_in 15 = .ok (.ireturn, 1) := dk_172 (dk_at dksX0_in_0 15 rfl rfl)
abbrev cX0_paint : ByteArray := prog_1_method_9_code
def yX0_paint : MethodName := ⟨RX0, "paint", "(II)Z"⟩
def dkwX0_paint_1 : List UInt8 := [16, 32, 27, 96, 28, 182, 0, 72, 4, 172]
abbrev dktX0_paint_1 : List UInt8 := dkwX0_paint_1 ++ []
def dkwX0_paint_0 : List UInt8 := [27, 184, 0, 68, 153, 0, 13, 28, 3, 16, 9, 184, 0, 58, 154, 0, 5, 3, 172, 42, 180, 0, 21]
abbrev dktX0_paint_0 : List UInt8 := dkwX0_paint_0 ++ dktX0_paint_1
theorem dksX0_paint_0 : cX0_paint.data.toList.drop 0 = dktX0_paint_0 := by decide +kernel
theorem dksX0_paint_1 : cX0_paint.data.toList.drop 23 = dktX0_paint_1 := dk_seg dksX0_paint_0 23 rfl rfl
theorem dX0_paint_0 : decode cX0_paint 0 = .ok (.iload_n 1, 1) := dk_27 (dk_at dksX0_paint_0 0 rfl rfl)
theorem dX0_paint_1 : decode cX0_paint 1 = .ok (.invokestatic 68, 3) := dk_184 0 68 (dk_at dksX0_paint_0 1 rfl rfl)
theorem dX0_paint_4 : decode cX0_paint 4 = .ok (.ifCond .eq 13, 3) := dk_153 0 13 (dk_at dksX0_paint_0 4 rfl rfl)
theorem dX0_paint_7 : decode cX0_paint 7 = .ok (.iload_n 2, 1) := dk_28 (dk_at dksX0_paint_0 7 rfl rfl)
theorem dX0_paint_8 : decode cX0_paint 8 = .ok (.iconst 0, 1) := dk_3 (dk_at dksX0_paint_0 8 rfl rfl)
theorem dX0_paint_9 : decode cX0_paint 9 = .ok (.bipush 9, 2) := dk_16 9 (dk_at dksX0_paint_0 9 rfl rfl)
theorem dX0_paint_11 : decode cX0_paint 11 = .ok (.invokestatic 58, 3) := dk_184 0 58 (dk_at dksX0_paint_0 11 rfl rfl)
theorem dX0_paint_14 : decode cX0_paint 14 = .ok (.ifCond .ne 5, 3) := dk_154 0 5 (dk_at dksX0_paint_0 14 rfl rfl)
theorem dX0_paint_17 : decode cX0_paint 17 = .ok (.iconst 0, 1) := dk_3 (dk_at dksX0_paint_0 17 rfl rfl)
theorem dX0_paint_18 : decode cX0_paint 18 = .ok (.ireturn, 1) := dk_172 (dk_at dksX0_paint_0 18 rfl rfl)
theorem dX0_paint_19 : decode cX0_paint 19 = .ok (.aload_n 0, 1) := dk_42 (dk_at dksX0_paint_0 19 rfl rfl)
theorem dX0_paint_20 : decode cX0_paint 20 = .ok (.getfield 21, 3) := dk_180 0 21 (dk_at dksX0_paint_0 20 rfl rfl)
theorem dX0_paint_23 : decode cX0_paint 23 = .ok (.bipush 32, 2) := dk_16 32 (dk_at dksX0_paint_1 0 rfl rfl)
theorem dX0_paint_25 : decode cX0_paint 25 = .ok (.iload_n 1, 1) := dk_27 (dk_at dksX0_paint_1 2 rfl rfl)
theorem dX0_paint_26 : decode cX0_paint 26 = .ok (.iadd, 1) := dk_96 (dk_at dksX0_paint_1 3 rfl rfl)
theorem dX0_paint_27 : decode cX0_paint 27 = .ok (.iload_n 2, 1) := dk_28 (dk_at dksX0_paint_1 4 rfl rfl)
theorem dX0_paint_28 : decode cX0_paint 28 = .ok (.invokevirtual 72, 3) := dk_182 0 72 (dk_at dksX0_paint_1 5 rfl rfl)
theorem dX0_paint_31 : decode cX0_paint 31 = .ok (.iconst 1, 1) := dk_4 (dk_at dksX0_paint_1 8 rfl rfl)
theorem dX0_paint_32 : decode cX0_paint 32 = .ok (.ireturn, 1) := dk_172 (dk_at dksX0_paint_1 9 rfl rfl)
abbrev cX0_child : ByteArray := prog_1_method_10_code
def yX0_child : MethodName := ⟨RX0, "child", "(II)I"⟩
def dkwX0_child_3 : List UInt8 := [172]
abbrev dktX0_child_3 : List UInt8 := dkwX0_child_3 ++ []
def dkwX0_child_2 : List UInt8 := [42, 180, 0, 21, 180, 0, 79, 29, 28, 79, 42, 180, 0, 21, 180, 0, 62, 3, 92, 46, 4, 96, 79, 29]
abbrev dktX0_child_2 : List UInt8 := dkwX0_child_2 ++ dktX0_child_3
def dkwX0_child_1 : List UInt8 := [184, 0, 58, 153, 0, 9, 29, 16, 7, 160, 0, 5, 2, 172, 42, 180, 0, 21, 180, 0, 76, 29, 27, 79]
abbrev dktX0_child_1 : List UInt8 := dkwX0_child_1 ++ dktX0_child_2
def dkwX0_child_0 : List UInt8 := [42, 180, 0, 21, 180, 0, 62, 3, 46, 62, 27, 4, 16, 9, 184, 0, 58, 153, 0, 19, 28, 3, 16, 9]
abbrev dktX0_child_0 : List UInt8 := dkwX0_child_0 ++ dktX0_child_1
theorem dksX0_child_0 : cX0_child.data.toList.drop 0 = dktX0_child_0 := by decide +kernel
theorem dksX0_child_1 : cX0_child.data.toList.drop 24 = dktX0_child_1 := dk_seg dksX0_child_0 24 rfl rfl
theorem dksX0_child_2 : cX0_child.data.toList.drop 48 = dktX0_child_2 := dk_seg dksX0_child_1 24 rfl rfl
theorem dksX0_child_3 : cX0_child.data.toList.drop 72 = dktX0_child_3 := dk_seg dksX0_child_2 24 rfl rfl
theorem dX0_child_0 : decode cX0_child 0 = .ok (.aload_n 0, 1) := dk_42 (dk_at dksX0_child_0 0 rfl rfl)
theorem dX0_child_1 : decode cX0_child 1 = .ok (.getfield 21, 3) := dk_180 0 21 (dk_at dksX0_child_0 1 rfl rfl)
theorem dX0_child_4 : decode cX0_child 4 = .ok (.getfield 62, 3) := dk_180 0 62 (dk_at dksX0_child_0 4 rfl rfl)
theorem dX0_child_7 : decode cX0_child 7 = .ok (.iconst 0, 1) := dk_3 (dk_at dksX0_child_0 7 rfl rfl)
theorem dX0_child_8 : decode cX0_child 8 = .ok (.iaload, 1) := dk_46 (dk_at dksX0_child_0 8 rfl rfl)
theorem dX0_child_9 : decode cX0_child 9 = .ok (.istore_n 3, 1) := dk_62 (dk_at dksX0_child_0 9 rfl rfl)
theorem dX0_child_10 : decode cX0_child 10 = .ok (.iload_n 1, 1) := dk_27 (dk_at dksX0_child_0 10 rfl rfl)
theorem dX0_child_11 : decode cX0_child 11 = .ok (.iconst 1, 1) := dk_4 (dk_at dksX0_child_0 11 rfl rfl)
theorem dX0_child_12 : decode cX0_child 12 = .ok (.bipush 9, 2) := dk_16 9 (dk_at dksX0_child_0 12 rfl rfl)
theorem dX0_child_14 : decode cX0_child 14 = .ok (.invokestatic 58, 3) := dk_184 0 58 (dk_at dksX0_child_0 14 rfl rfl)
theorem dX0_child_17 : decode cX0_child 17 = .ok (.ifCond .eq 19, 3) := dk_153 0 19 (dk_at dksX0_child_0 17 rfl rfl)
theorem dX0_child_20 : decode cX0_child 20 = .ok (.iload_n 2, 1) := dk_28 (dk_at dksX0_child_0 20 rfl rfl)
theorem dX0_child_21 : decode cX0_child 21 = .ok (.iconst 0, 1) := dk_3 (dk_at dksX0_child_0 21 rfl rfl)
theorem dX0_child_22 : decode cX0_child 22 = .ok (.bipush 9, 2) := dk_16 9 (dk_at dksX0_child_0 22 rfl rfl)
theorem dX0_child_24 : decode cX0_child 24 = .ok (.invokestatic 58, 3) := dk_184 0 58 (dk_at dksX0_child_1 0 rfl rfl)
theorem dX0_child_27 : decode cX0_child 27 = .ok (.ifCond .eq 9, 3) := dk_153 0 9 (dk_at dksX0_child_1 3 rfl rfl)
theorem dX0_child_30 : decode cX0_child 30 = .ok (.iload_n 3, 1) := dk_29 (dk_at dksX0_child_1 6 rfl rfl)
theorem dX0_child_31 : decode cX0_child 31 = .ok (.bipush 7, 2) := dk_16 7 (dk_at dksX0_child_1 7 rfl rfl)
theorem dX0_child_33 : decode cX0_child 33 = .ok (.if_icmp .ne 5, 3) := dk_160 0 5 (dk_at dksX0_child_1 9 rfl rfl)
theorem dX0_child_36 : decode cX0_child 36 = .ok (.iconst (-1), 1) := dk_2 (dk_at dksX0_child_1 12 rfl rfl)
theorem dX0_child_37 : decode cX0_child 37 = .ok (.ireturn, 1) := dk_172 (dk_at dksX0_child_1 13 rfl rfl)
theorem dX0_child_38 : decode cX0_child 38 = .ok (.aload_n 0, 1) := dk_42 (dk_at dksX0_child_1 14 rfl rfl)
theorem dX0_child_39 : decode cX0_child 39 = .ok (.getfield 21, 3) := dk_180 0 21 (dk_at dksX0_child_1 15 rfl rfl)
theorem dX0_child_42 : decode cX0_child 42 = .ok (.getfield 76, 3) := dk_180 0 76 (dk_at dksX0_child_1 18 rfl rfl)
theorem dX0_child_45 : decode cX0_child 45 = .ok (.iload_n 3, 1) := dk_29 (dk_at dksX0_child_1 21 rfl rfl)
theorem dX0_child_46 : decode cX0_child 46 = .ok (.iload_n 1, 1) := dk_27 (dk_at dksX0_child_1 22 rfl rfl)
theorem dX0_child_47 : decode cX0_child 47 = .ok (.iastore, 1) := dk_79 (dk_at dksX0_child_1 23 rfl rfl)
theorem dX0_child_48 : decode cX0_child 48 = .ok (.aload_n 0, 1) := dk_42 (dk_at dksX0_child_2 0 rfl rfl)
theorem dX0_child_49 : decode cX0_child 49 = .ok (.getfield 21, 3) := dk_180 0 21 (dk_at dksX0_child_2 1 rfl rfl)
theorem dX0_child_52 : decode cX0_child 52 = .ok (.getfield 79, 3) := dk_180 0 79 (dk_at dksX0_child_2 4 rfl rfl)
theorem dX0_child_55 : decode cX0_child 55 = .ok (.iload_n 3, 1) := dk_29 (dk_at dksX0_child_2 7 rfl rfl)
theorem dX0_child_56 : decode cX0_child 56 = .ok (.iload_n 2, 1) := dk_28 (dk_at dksX0_child_2 8 rfl rfl)
theorem dX0_child_57 : decode cX0_child 57 = .ok (.iastore, 1) := dk_79 (dk_at dksX0_child_2 9 rfl rfl)
theorem dX0_child_58 : decode cX0_child 58 = .ok (.aload_n 0, 1) := dk_42 (dk_at dksX0_child_2 10 rfl rfl)
theorem dX0_child_59 : decode cX0_child 59 = .ok (.getfield 21, 3) := dk_180 0 21 (dk_at dksX0_child_2 11 rfl rfl)
theorem dX0_child_62 : decode cX0_child 62 = .ok (.getfield 62, 3) := dk_180 0 62 (dk_at dksX0_child_2 14 rfl rfl)
theorem dX0_child_65 : decode cX0_child 65 = .ok (.iconst 0, 1) := dk_3 (dk_at dksX0_child_2 17 rfl rfl)
theorem dX0_child_66 : decode cX0_child 66 = .ok (.dup2, 1) := dk_92 (dk_at dksX0_child_2 18 rfl rfl)
theorem dX0_child_67 : decode cX0_child 67 = .ok (.iaload, 1) := dk_46 (dk_at dksX0_child_2 19 rfl rfl)
theorem dX0_child_68 : decode cX0_child 68 = .ok (.iconst 1, 1) := dk_4 (dk_at dksX0_child_2 20 rfl rfl)
theorem dX0_child_69 : decode cX0_child 69 = .ok (.iadd, 1) := dk_96 (dk_at dksX0_child_2 21 rfl rfl)
theorem dX0_child_70 : decode cX0_child 70 = .ok (.iastore, 1) := dk_79 (dk_at dksX0_child_2 22 rfl rfl)
theorem dX0_child_71 : decode cX0_child 71 = .ok (.iload_n 3, 1) := dk_29 (dk_at dksX0_child_2 23 rfl rfl)
theorem dX0_child_72 : decode cX0_child 72 = .ok (.ireturn, 1) := dk_172 (dk_at dksX0_child_3 0 rfl rfl)
abbrev cX0_feed : ByteArray := prog_1_method_12_code
def yX0_feed : MethodName := ⟨RX0, "feed", "(IIIII)I"⟩
def dkwX0_feed_2 : List UInt8 := [172]
abbrev dktX0_feed_2 : List UInt8 := dkwX0_feed_2 ++ []
def dkwX0_feed_1 : List UInt8 := [182, 0, 85, 42, 29, 182, 0, 85, 42, 21, 4, 182, 0, 85, 42, 21, 5, 182, 0, 85, 42, 180, 0, 82]
abbrev dktX0_feed_1 : List UInt8 := dkwX0_feed_1 ++ dktX0_feed_2
def dkwX0_feed_0 : List UInt8 := [42, 180, 0, 82, 16, 20, 96, 17, 1, 44, 164, 0, 5, 2, 172, 42, 27, 182, 0, 85, 42, 28]
abbrev dktX0_feed_0 : List UInt8 := dkwX0_feed_0 ++ dktX0_feed_1
theorem dksX0_feed_0 : cX0_feed.data.toList.drop 0 = dktX0_feed_0 := by decide +kernel
theorem dksX0_feed_1 : cX0_feed.data.toList.drop 22 = dktX0_feed_1 := dk_seg dksX0_feed_0 22 rfl rfl
theorem dksX0_feed_2 : cX0_feed.data.toList.drop 46 = dktX0_feed_2 := dk_seg dksX0_feed_1 24 rfl rfl
theorem dX0_feed_0 : decode cX0_feed 0 = .ok (.aload_n 0, 1) := dk_42 (dk_at dksX0_feed_0 0 rfl rfl)
theorem dX0_feed_1 : decode cX0_feed 1 = .ok (.getfield 82, 3) := dk_180 0 82 (dk_at dksX0_feed_0 1 rfl rfl)
theorem dX0_feed_4 : decode cX0_feed 4 = .ok (.bipush 20, 2) := dk_16 20 (dk_at dksX0_feed_0 4 rfl rfl)
theorem dX0_feed_6 : decode cX0_feed 6 = .ok (.iadd, 1) := dk_96 (dk_at dksX0_feed_0 6 rfl rfl)
theorem dX0_feed_7 : decode cX0_feed 7 = .ok (.sipush 300, 3) := dk_17 1 44 (dk_at dksX0_feed_0 7 rfl rfl)
theorem dX0_feed_10 : decode cX0_feed 10 = .ok (.if_icmp .le 5, 3) := dk_164 0 5 (dk_at dksX0_feed_0 10 rfl rfl)
theorem dX0_feed_13 : decode cX0_feed 13 = .ok (.iconst (-1), 1) := dk_2 (dk_at dksX0_feed_0 13 rfl rfl)
theorem dX0_feed_14 : decode cX0_feed 14 = .ok (.ireturn, 1) := dk_172 (dk_at dksX0_feed_0 14 rfl rfl)
theorem dX0_feed_15 : decode cX0_feed 15 = .ok (.aload_n 0, 1) := dk_42 (dk_at dksX0_feed_0 15 rfl rfl)
theorem dX0_feed_16 : decode cX0_feed 16 = .ok (.iload_n 1, 1) := dk_27 (dk_at dksX0_feed_0 16 rfl rfl)
theorem dX0_feed_17 : decode cX0_feed 17 = .ok (.invokevirtual 85, 3) := dk_182 0 85 (dk_at dksX0_feed_0 17 rfl rfl)
theorem dX0_feed_20 : decode cX0_feed 20 = .ok (.aload_n 0, 1) := dk_42 (dk_at dksX0_feed_0 20 rfl rfl)
theorem dX0_feed_21 : decode cX0_feed 21 = .ok (.iload_n 2, 1) := dk_28 (dk_at dksX0_feed_0 21 rfl rfl)
theorem dX0_feed_22 : decode cX0_feed 22 = .ok (.invokevirtual 85, 3) := dk_182 0 85 (dk_at dksX0_feed_1 0 rfl rfl)
theorem dX0_feed_25 : decode cX0_feed 25 = .ok (.aload_n 0, 1) := dk_42 (dk_at dksX0_feed_1 3 rfl rfl)
theorem dX0_feed_26 : decode cX0_feed 26 = .ok (.iload_n 3, 1) := dk_29 (dk_at dksX0_feed_1 4 rfl rfl)
theorem dX0_feed_27 : decode cX0_feed 27 = .ok (.invokevirtual 85, 3) := dk_182 0 85 (dk_at dksX0_feed_1 5 rfl rfl)
theorem dX0_feed_30 : decode cX0_feed 30 = .ok (.aload_n 0, 1) := dk_42 (dk_at dksX0_feed_1 8 rfl rfl)
theorem dX0_feed_31 : decode cX0_feed 31 = .ok (.iload 4, 2) := dk_21 4 (dk_at dksX0_feed_1 9 rfl rfl)
theorem dX0_feed_33 : decode cX0_feed 33 = .ok (.invokevirtual 85, 3) := dk_182 0 85 (dk_at dksX0_feed_1 11 rfl rfl)
theorem dX0_feed_36 : decode cX0_feed 36 = .ok (.aload_n 0, 1) := dk_42 (dk_at dksX0_feed_1 14 rfl rfl)
theorem dX0_feed_37 : decode cX0_feed 37 = .ok (.iload 5, 2) := dk_21 5 (dk_at dksX0_feed_1 15 rfl rfl)
theorem dX0_feed_39 : decode cX0_feed 39 = .ok (.invokevirtual 85, 3) := dk_182 0 85 (dk_at dksX0_feed_1 17 rfl rfl)
theorem dX0_feed_42 : decode cX0_feed 42 = .ok (.aload_n 0, 1) := dk_42 (dk_at dksX0_feed_1 20 rfl rfl)
theorem dX0_feed_43 : decode cX0_feed 43 = .ok (.getfield 82, 3) := dk_180 0 82 (dk_at dksX0_feed_1 21 rfl rfl)
theorem dX0_feed_46 : decode cX0_feed 46 = .ok (.ireturn, 1) := dk_172 (dk_at dksX0_feed_2 0 rfl rfl)
abbrev cX0_put : ByteArray := prog_1_method_11_code
def yX0_put : MethodName := ⟨RX0, "put", "(I)V"⟩
def dkwX0_put_1 : List UInt8 := [180, 0, 82, 4, 96, 181, 0, 82, 132, 2, 248, 167, 255, 226, 177]
abbrev dktX0_put_1 : List UInt8 := dkwX0_put_1 ++ []
def dkwX0_put_0 : List UInt8 := [16, 24, 61, 28, 155, 0, 32, 42, 180, 0, 28, 42, 180, 0, 82, 27, 28, 122, 145, 84, 42, 89]
abbrev dktX0_put_0 : List UInt8 := dkwX0_put_0 ++ dktX0_put_1
theorem dksX0_put_0 : cX0_put.data.toList.drop 0 = dktX0_put_0 := by decide +kernel
theorem dksX0_put_1 : cX0_put.data.toList.drop 22 = dktX0_put_1 := dk_seg dksX0_put_0 22 rfl rfl
theorem dX0_put_0 : decode cX0_put 0 = .ok (.bipush 24, 2) := dk_16 24 (dk_at dksX0_put_0 0 rfl rfl)
theorem dX0_put_2 : decode cX0_put 2 = .ok (.istore_n 2, 1) := dk_61 (dk_at dksX0_put_0 2 rfl rfl)
theorem dX0_put_3 : decode cX0_put 3 = .ok (.iload_n 2, 1) := dk_28 (dk_at dksX0_put_0 3 rfl rfl)
theorem dX0_put_4 : decode cX0_put 4 = .ok (.ifCond .lt 32, 3) := dk_155 0 32 (dk_at dksX0_put_0 4 rfl rfl)
theorem dX0_put_7 : decode cX0_put 7 = .ok (.aload_n 0, 1) := dk_42 (dk_at dksX0_put_0 7 rfl rfl)
theorem dX0_put_8 : decode cX0_put 8 = .ok (.getfield 28, 3) := dk_180 0 28 (dk_at dksX0_put_0 8 rfl rfl)
theorem dX0_put_11 : decode cX0_put 11 = .ok (.aload_n 0, 1) := dk_42 (dk_at dksX0_put_0 11 rfl rfl)
theorem dX0_put_12 : decode cX0_put 12 = .ok (.getfield 82, 3) := dk_180 0 82 (dk_at dksX0_put_0 12 rfl rfl)
theorem dX0_put_15 : decode cX0_put 15 = .ok (.iload_n 1, 1) := dk_27 (dk_at dksX0_put_0 15 rfl rfl)
theorem dX0_put_16 : decode cX0_put 16 = .ok (.iload_n 2, 1) := dk_28 (dk_at dksX0_put_0 16 rfl rfl)
theorem dX0_put_17 : decode cX0_put 17 = .ok (.ishr, 1) := dk_122 (dk_at dksX0_put_0 17 rfl rfl)
theorem dX0_put_18 : decode cX0_put 18 = .ok (.i2b, 1) := dk_145 (dk_at dksX0_put_0 18 rfl rfl)
theorem dX0_put_19 : decode cX0_put 19 = .ok (.bastore, 1) := dk_84 (dk_at dksX0_put_0 19 rfl rfl)
theorem dX0_put_20 : decode cX0_put 20 = .ok (.aload_n 0, 1) := dk_42 (dk_at dksX0_put_0 20 rfl rfl)
theorem dX0_put_21 : decode cX0_put 21 = .ok (.dup, 1) := dk_89 (dk_at dksX0_put_0 21 rfl rfl)
theorem dX0_put_22 : decode cX0_put 22 = .ok (.getfield 82, 3) := dk_180 0 82 (dk_at dksX0_put_1 0 rfl rfl)
theorem dX0_put_25 : decode cX0_put 25 = .ok (.iconst 1, 1) := dk_4 (dk_at dksX0_put_1 3 rfl rfl)
theorem dX0_put_26 : decode cX0_put 26 = .ok (.iadd, 1) := dk_96 (dk_at dksX0_put_1 4 rfl rfl)
theorem dX0_put_27 : decode cX0_put 27 = .ok (.putfield 82, 3) := dk_181 0 82 (dk_at dksX0_put_1 5 rfl rfl)
theorem dX0_put_30 : decode cX0_put 30 = .ok (.iinc 2 (-8), 3) := dk_132 2 248 (dk_at dksX0_put_1 8 rfl rfl)
theorem dX0_put_33 : decode cX0_put 33 = .ok (.goto (-30), 3) := dk_167 255 226 (dk_at dksX0_put_1 11 rfl rfl)
theorem dX0_put_36 : decode cX0_put 36 = .ok (.return_, 1) := dk_177 (dk_at dksX0_put_1 14 rfl rfl)
abbrev cX0_end : ByteArray := prog_1_method_13_code
def yX0_end : MethodName := ⟨RX0, "end", "(I)I"⟩
def dkwX0_end_0 : List UInt8 := [27, 3, 42, 180, 0, 82, 184, 0, 58, 154, 0, 5, 2, 172, 42, 27, 181, 0, 82, 27, 172]
abbrev dktX0_end_0 : List UInt8 := dkwX0_end_0 ++ []
theorem dksX0_end_0 : cX0_end.data.toList.drop 0 = dktX0_end_0 := by decide +kernel
theorem dX0_end_0 : decode cX0_end 0 = .ok (.iload_n 1, 1) := dk_27 (dk_at dksX0_end_0 0 rfl rfl)
theorem dX0_end_1 : decode cX0_end 1 = .ok (.iconst 0, 1) := dk_3 (dk_at dksX0_end_0 1 rfl rfl)
theorem dX0_end_2 : decode cX0_end 2 = .ok (.aload_n 0, 1) := dk_42 (dk_at dksX0_end_0 2 rfl rfl)
theorem dX0_end_3 : decode cX0_end 3 = .ok (.getfield 82, 3) := dk_180 0 82 (dk_at dksX0_end_0 3 rfl rfl)
theorem dX0_end_6 : decode cX0_end 6 = .ok (.invokestatic 58, 3) := dk_184 0 58 (dk_at dksX0_end_0 6 rfl rfl)
theorem dX0_end_9 : decode cX0_end 9 = .ok (.ifCond .ne 5, 3) := dk_154 0 5 (dk_at dksX0_end_0 9 rfl rfl)
theorem dX0_end_12 : decode cX0_end 12 = .ok (.iconst (-1), 1) := dk_2 (dk_at dksX0_end_0 12 rfl rfl)
theorem dX0_end_13 : decode cX0_end 13 = .ok (.ireturn, 1) := dk_172 (dk_at dksX0_end_0 13 rfl rfl)
theorem dX0_end_14 : decode cX0_end 14 = .ok (.aload_n 0, 1) := dk_42 (dk_at dksX0_end_0 14 rfl rfl)
theorem dX0_end_15 : decode cX0_end 15 = .ok (.iload_n 1, 1) := dk_27 (dk_at dksX0_end_0 15 rfl rfl)
theorem dX0_end_16 : decode cX0_end 16 = .ok (.putfield 82, 3) := dk_181 0 82 (dk_at dksX0_end_0 16 rfl rfl)
theorem dX0_end_19 : decode cX0_end 19 = .ok (.iload_n 1, 1) := dk_27 (dk_at dksX0_end_0 19 rfl rfl)
theorem dX0_end_20 : decode cX0_end 20 = .ok (.ireturn, 1) := dk_172 (dk_at dksX0_end_0 20 rfl rfl)
abbrev cX0_text : ByteArray := prog_1_method_14_code
def yX0_text : MethodName := ⟨RX0, "text", "()I"⟩
def dkwX0_text_5 : List UInt8 := [79, 42, 180, 0, 21, 180, 0, 62, 4, 46, 4, 100, 172]
abbrev dktX0_text_5 : List UInt8 := dkwX0_text_5 ++ []
def dkwX0_text_4 : List UInt8 := [29, 172, 58, 4, 42, 3, 181, 0, 82, 25, 4, 191, 42, 180, 0, 21, 180, 0, 62, 4, 92, 46, 4, 96]
abbrev dktX0_text_4 : List UInt8 := dkwX0_text_4 ++ dktX0_text_5
def dkwX0_text_3 : List UInt8 := [77, 42, 44, 180, 0, 104, 181, 0, 32, 42, 44, 180, 0, 105, 181, 0, 36, 2, 62, 42, 3, 181, 0, 82]
abbrev dktX0_text_3 : List UInt8 := dkwX0_text_3 ++ dktX0_text_4
def dkwX0_text_2 : List UInt8 := [187, 0, 93, 89, 42, 180, 0, 28, 27, 183, 0, 95, 182, 0, 98, 83, 42, 3, 181, 0, 82, 167, 0, 39]
abbrev dktX0_text_2 : List UInt8 := dkwX0_text_2 ++ dktX0_text_3
def dkwX0_text_1 : List UInt8 := [181, 0, 32, 42, 2, 181, 0, 36, 42, 180, 0, 21, 180, 0, 89, 42, 180, 0, 21, 180, 0, 62, 4, 46]
abbrev dktX0_text_1 : List UInt8 := dkwX0_text_1 ++ dktX0_text_2
def dkwX0_text_0 : List UInt8 := [42, 180, 0, 21, 180, 0, 62, 4, 46, 7, 160, 0, 5, 2, 172, 42, 180, 0, 82, 60, 42, 3]
abbrev dktX0_text_0 : List UInt8 := dkwX0_text_0 ++ dktX0_text_1
theorem dksX0_text_0 : cX0_text.data.toList.drop 0 = dktX0_text_0 := by decide +kernel
theorem dksX0_text_1 : cX0_text.data.toList.drop 22 = dktX0_text_1 := dk_seg dksX0_text_0 22 rfl rfl
theorem dksX0_text_2 : cX0_text.data.toList.drop 46 = dktX0_text_2 := dk_seg dksX0_text_1 24 rfl rfl
theorem dksX0_text_3 : cX0_text.data.toList.drop 70 = dktX0_text_3 := dk_seg dksX0_text_2 24 rfl rfl
theorem dksX0_text_4 : cX0_text.data.toList.drop 94 = dktX0_text_4 := dk_seg dksX0_text_3 24 rfl rfl
theorem dksX0_text_5 : cX0_text.data.toList.drop 118 = dktX0_text_5 := dk_seg dksX0_text_4 24 rfl rfl
theorem dX0_text_0 : decode cX0_text 0 = .ok (.aload_n 0, 1) := dk_42 (dk_at dksX0_text_0 0 rfl rfl)
theorem dX0_text_1 : decode cX0_text 1 = .ok (.getfield 21, 3) := dk_180 0 21 (dk_at dksX0_text_0 1 rfl rfl)
theorem dX0_text_4 : decode cX0_text 4 = .ok (.getfield 62, 3) := dk_180 0 62 (dk_at dksX0_text_0 4 rfl rfl)
theorem dX0_text_7 : decode cX0_text 7 = .ok (.iconst 1, 1) := dk_4 (dk_at dksX0_text_0 7 rfl rfl)
theorem dX0_text_8 : decode cX0_text 8 = .ok (.iaload, 1) := dk_46 (dk_at dksX0_text_0 8 rfl rfl)
theorem dX0_text_9 : decode cX0_text 9 = .ok (.iconst 4, 1) := dk_7 (dk_at dksX0_text_0 9 rfl rfl)
theorem dX0_text_10 : decode cX0_text 10 = .ok (.if_icmp .ne 5, 3) := dk_160 0 5 (dk_at dksX0_text_0 10 rfl rfl)
theorem dX0_text_13 : decode cX0_text 13 = .ok (.iconst (-1), 1) := dk_2 (dk_at dksX0_text_0 13 rfl rfl)
theorem dX0_text_14 : decode cX0_text 14 = .ok (.ireturn, 1) := dk_172 (dk_at dksX0_text_0 14 rfl rfl)
theorem dX0_text_15 : decode cX0_text 15 = .ok (.aload_n 0, 1) := dk_42 (dk_at dksX0_text_0 15 rfl rfl)
theorem dX0_text_16 : decode cX0_text 16 = .ok (.getfield 82, 3) := dk_180 0 82 (dk_at dksX0_text_0 16 rfl rfl)
theorem dX0_text_19 : decode cX0_text 19 = .ok (.istore_n 1, 1) := dk_60 (dk_at dksX0_text_0 19 rfl rfl)
theorem dX0_text_20 : decode cX0_text 20 = .ok (.aload_n 0, 1) := dk_42 (dk_at dksX0_text_0 20 rfl rfl)
theorem dX0_text_21 : decode cX0_text 21 = .ok (.iconst 0, 1) := dk_3 (dk_at dksX0_text_0 21 rfl rfl)
theorem dX0_text_22 : decode cX0_text 22 = .ok (.putfield 32, 3) := dk_181 0 32 (dk_at dksX0_text_1 0 rfl rfl)
theorem dX0_text_25 : decode cX0_text 25 = .ok (.aload_n 0, 1) := dk_42 (dk_at dksX0_text_1 3 rfl rfl)
theorem dX0_text_26 : decode cX0_text 26 = .ok (.iconst (-1), 1) := dk_2 (dk_at dksX0_text_1 4 rfl rfl)
theorem dX0_text_27 : decode cX0_text 27 = .ok (.putfield 36, 3) := dk_181 0 36 (dk_at dksX0_text_1 5 rfl rfl)
theorem dX0_text_30 : decode cX0_text 30 = .ok (.aload_n 0, 1) := dk_42 (dk_at dksX0_text_1 8 rfl rfl)
theorem dX0_text_31 : decode cX0_text 31 = .ok (.getfield 21, 3) := dk_180 0 21 (dk_at dksX0_text_1 9 rfl rfl)
theorem dX0_text_34 : decode cX0_text 34 = .ok (.getfield 89, 3) := dk_180 0 89 (dk_at dksX0_text_1 12 rfl rfl)
theorem dX0_text_37 : decode cX0_text 37 = .ok (.aload_n 0, 1) := dk_42 (dk_at dksX0_text_1 15 rfl rfl)
theorem dX0_text_38 : decode cX0_text 38 = .ok (.getfield 21, 3) := dk_180 0 21 (dk_at dksX0_text_1 16 rfl rfl)
theorem dX0_text_41 : decode cX0_text 41 = .ok (.getfield 62, 3) := dk_180 0 62 (dk_at dksX0_text_1 19 rfl rfl)
theorem dX0_text_44 : decode cX0_text 44 = .ok (.iconst 1, 1) := dk_4 (dk_at dksX0_text_1 22 rfl rfl)
theorem dX0_text_45 : decode cX0_text 45 = .ok (.iaload, 1) := dk_46 (dk_at dksX0_text_1 23 rfl rfl)
theorem dX0_text_46 : decode cX0_text 46 = .ok (.new 93, 3) := dk_187 0 93 (dk_at dksX0_text_2 0 rfl rfl)
theorem dX0_text_49 : decode cX0_text 49 = .ok (.dup, 1) := dk_89 (dk_at dksX0_text_2 3 rfl rfl)
theorem dX0_text_50 : decode cX0_text 50 = .ok (.aload_n 0, 1) := dk_42 (dk_at dksX0_text_2 4 rfl rfl)
theorem dX0_text_51 : decode cX0_text 51 = .ok (.getfield 28, 3) := dk_180 0 28 (dk_at dksX0_text_2 5 rfl rfl)
theorem dX0_text_54 : decode cX0_text 54 = .ok (.iload_n 1, 1) := dk_27 (dk_at dksX0_text_2 8 rfl rfl)
theorem dX0_text_55 : decode cX0_text 55 = .ok (.invokespecial 95, 3) := dk_183 0 95 (dk_at dksX0_text_2 9 rfl rfl)
theorem dX0_text_58 : decode cX0_text 58 = .ok (.invokevirtual 98, 3) := dk_182 0 98 (dk_at dksX0_text_2 12 rfl rfl)
theorem dX0_text_61 : decode cX0_text 61 = .ok (.aastore, 1) := dk_83 (dk_at dksX0_text_2 15 rfl rfl)
theorem dX0_text_62 : decode cX0_text 62 = .ok (.aload_n 0, 1) := dk_42 (dk_at dksX0_text_2 16 rfl rfl)
theorem dX0_text_63 : decode cX0_text 63 = .ok (.iconst 0, 1) := dk_3 (dk_at dksX0_text_2 17 rfl rfl)
theorem dX0_text_64 : decode cX0_text 64 = .ok (.putfield 82, 3) := dk_181 0 82 (dk_at dksX0_text_2 18 rfl rfl)
theorem dX0_text_67 : decode cX0_text 67 = .ok (.goto 39, 3) := dk_167 0 39 (dk_at dksX0_text_2 21 rfl rfl)
theorem dX0_text_70 : decode cX0_text 70 = .ok (.astore_n 2, 1) := dk_77 (dk_at dksX0_text_3 0 rfl rfl)
theorem dX0_text_71 : decode cX0_text 71 = .ok (.aload_n 0, 1) := dk_42 (dk_at dksX0_text_3 1 rfl rfl)
theorem dX0_text_72 : decode cX0_text 72 = .ok (.aload_n 2, 1) := dk_44 (dk_at dksX0_text_3 2 rfl rfl)
theorem dX0_text_73 : decode cX0_text 73 = .ok (.getfield 104, 3) := dk_180 0 104 (dk_at dksX0_text_3 3 rfl rfl)
theorem dX0_text_76 : decode cX0_text 76 = .ok (.putfield 32, 3) := dk_181 0 32 (dk_at dksX0_text_3 6 rfl rfl)
theorem dX0_text_79 : decode cX0_text 79 = .ok (.aload_n 0, 1) := dk_42 (dk_at dksX0_text_3 9 rfl rfl)
theorem dX0_text_80 : decode cX0_text 80 = .ok (.aload_n 2, 1) := dk_44 (dk_at dksX0_text_3 10 rfl rfl)
theorem dX0_text_81 : decode cX0_text 81 = .ok (.getfield 105, 3) := dk_180 0 105 (dk_at dksX0_text_3 11 rfl rfl)
theorem dX0_text_84 : decode cX0_text 84 = .ok (.putfield 36, 3) := dk_181 0 36 (dk_at dksX0_text_3 14 rfl rfl)
theorem dX0_text_87 : decode cX0_text 87 = .ok (.iconst (-1), 1) := dk_2 (dk_at dksX0_text_3 17 rfl rfl)
theorem dX0_text_88 : decode cX0_text 88 = .ok (.istore_n 3, 1) := dk_62 (dk_at dksX0_text_3 18 rfl rfl)
theorem dX0_text_89 : decode cX0_text 89 = .ok (.aload_n 0, 1) := dk_42 (dk_at dksX0_text_3 19 rfl rfl)
theorem dX0_text_90 : decode cX0_text 90 = .ok (.iconst 0, 1) := dk_3 (dk_at dksX0_text_3 20 rfl rfl)
theorem dX0_text_91 : decode cX0_text 91 = .ok (.putfield 82, 3) := dk_181 0 82 (dk_at dksX0_text_3 21 rfl rfl)
theorem dX0_text_94 : decode cX0_text 94 = .ok (.iload_n 3, 1) := dk_29 (dk_at dksX0_text_4 0 rfl rfl)
theorem dX0_text_95 : decode cX0_text 95 = .ok (.ireturn, 1) := dk_172 (dk_at dksX0_text_4 1 rfl rfl)
theorem dX0_text_96 : decode cX0_text 96 = .ok (.astore 4, 2) := dk_58 4 (dk_at dksX0_text_4 2 rfl rfl)
theorem dX0_text_98 : decode cX0_text 98 = .ok (.aload_n 0, 1) := dk_42 (dk_at dksX0_text_4 4 rfl rfl)
theorem dX0_text_99 : decode cX0_text 99 = .ok (.iconst 0, 1) := dk_3 (dk_at dksX0_text_4 5 rfl rfl)
theorem dX0_text_100 : decode cX0_text 100 = .ok (.putfield 82, 3) := dk_181 0 82 (dk_at dksX0_text_4 6 rfl rfl)
theorem dX0_text_103 : decode cX0_text 103 = .ok (.aload 4, 2) := dk_25 4 (dk_at dksX0_text_4 9 rfl rfl)
theorem dX0_text_105 : decode cX0_text 105 = .ok (.athrow, 1) := dk_191 (dk_at dksX0_text_4 11 rfl rfl)
theorem dX0_text_106 : decode cX0_text 106 = .ok (.aload_n 0, 1) := dk_42 (dk_at dksX0_text_4 12 rfl rfl)
theorem dX0_text_107 : decode cX0_text 107 = .ok (.getfield 21, 3) := dk_180 0 21 (dk_at dksX0_text_4 13 rfl rfl)
theorem dX0_text_110 : decode cX0_text 110 = .ok (.getfield 62, 3) := dk_180 0 62 (dk_at dksX0_text_4 16 rfl rfl)
theorem dX0_text_113 : decode cX0_text 113 = .ok (.iconst 1, 1) := dk_4 (dk_at dksX0_text_4 19 rfl rfl)
theorem dX0_text_114 : decode cX0_text 114 = .ok (.dup2, 1) := dk_92 (dk_at dksX0_text_4 20 rfl rfl)
theorem dX0_text_115 : decode cX0_text 115 = .ok (.iaload, 1) := dk_46 (dk_at dksX0_text_4 21 rfl rfl)
theorem dX0_text_116 : decode cX0_text 116 = .ok (.iconst 1, 1) := dk_4 (dk_at dksX0_text_4 22 rfl rfl)
theorem dX0_text_117 : decode cX0_text 117 = .ok (.iadd, 1) := dk_96 (dk_at dksX0_text_4 23 rfl rfl)
theorem dX0_text_118 : decode cX0_text 118 = .ok (.iastore, 1) := dk_79 (dk_at dksX0_text_5 0 rfl rfl)
theorem dX0_text_119 : decode cX0_text 119 = .ok (.aload_n 0, 1) := dk_42 (dk_at dksX0_text_5 1 rfl rfl)
theorem dX0_text_120 : decode cX0_text 120 = .ok (.getfield 21, 3) := dk_180 0 21 (dk_at dksX0_text_5 2 rfl rfl)
theorem dX0_text_123 : decode cX0_text 123 = .ok (.getfield 62, 3) := dk_180 0 62 (dk_at dksX0_text_5 5 rfl rfl)
theorem dX0_text_126 : decode cX0_text 126 = .ok (.iconst 1, 1) := dk_4 (dk_at dksX0_text_5 8 rfl rfl)
theorem dX0_text_127 : decode cX0_text 127 = .ok (.iaload, 1) := dk_46 (dk_at dksX0_text_5 9 rfl rfl)
theorem dX0_text_128 : decode cX0_text 128 = .ok (.iconst 1, 1) := dk_4 (dk_at dksX0_text_5 10 rfl rfl)
theorem dX0_text_129 : decode cX0_text 129 = .ok (.isub, 1) := dk_100 (dk_at dksX0_text_5 11 rfl rfl)
theorem dX0_text_130 : decode cX0_text 130 = .ok (.ireturn, 1) := dk_172 (dk_at dksX0_text_5 12 rfl rfl)
abbrev cX0_fault : ByteArray := prog_1_method_15_code
def yX0_fault : MethodName := ⟨RX0, "fault", "(I)I"⟩
def dkwX0_fault_1 : List UInt8 := [172]
abbrev dktX0_fault_1 : List UInt8 := dkwX0_fault_1 ++ []
def dkwX0_fault_0 : List UInt8 := [27, 154, 0, 10, 42, 180, 0, 32, 167, 0, 16, 27, 4, 160, 0, 10, 42, 180, 0, 36, 167, 0, 4, 2]
abbrev dktX0_fault_0 : List UInt8 := dkwX0_fault_0 ++ dktX0_fault_1
theorem dksX0_fault_0 : cX0_fault.data.toList.drop 0 = dktX0_fault_0 := by decide +kernel
theorem dksX0_fault_1 : cX0_fault.data.toList.drop 24 = dktX0_fault_1 := dk_seg dksX0_fault_0 24 rfl rfl
theorem dX0_fault_0 : decode cX0_fault 0 = .ok (.iload_n 1, 1) := dk_27 (dk_at dksX0_fault_0 0 rfl rfl)
theorem dX0_fault_1 : decode cX0_fault 1 = .ok (.ifCond .ne 10, 3) := dk_154 0 10 (dk_at dksX0_fault_0 1 rfl rfl)
theorem dX0_fault_4 : decode cX0_fault 4 = .ok (.aload_n 0, 1) := dk_42 (dk_at dksX0_fault_0 4 rfl rfl)
theorem dX0_fault_5 : decode cX0_fault 5 = .ok (.getfield 32, 3) := dk_180 0 32 (dk_at dksX0_fault_0 5 rfl rfl)
theorem dX0_fault_8 : decode cX0_fault 8 = .ok (.goto 16, 3) := dk_167 0 16 (dk_at dksX0_fault_0 8 rfl rfl)
theorem dX0_fault_11 : decode cX0_fault 11 = .ok (.iload_n 1, 1) := dk_27 (dk_at dksX0_fault_0 11 rfl rfl)
theorem dX0_fault_12 : decode cX0_fault 12 = .ok (.iconst 1, 1) := dk_4 (dk_at dksX0_fault_0 12 rfl rfl)
theorem dX0_fault_13 : decode cX0_fault 13 = .ok (.if_icmp .ne 10, 3) := dk_160 0 10 (dk_at dksX0_fault_0 13 rfl rfl)
theorem dX0_fault_16 : decode cX0_fault 16 = .ok (.aload_n 0, 1) := dk_42 (dk_at dksX0_fault_0 16 rfl rfl)
theorem dX0_fault_17 : decode cX0_fault 17 = .ok (.getfield 36, 3) := dk_180 0 36 (dk_at dksX0_fault_0 17 rfl rfl)
theorem dX0_fault_20 : decode cX0_fault 20 = .ok (.goto 4, 3) := dk_167 0 4 (dk_at dksX0_fault_0 20 rfl rfl)
theorem dX0_fault_23 : decode cX0_fault 23 = .ok (.iconst (-1), 1) := dk_2 (dk_at dksX0_fault_0 23 rfl rfl)
theorem dX0_fault_24 : decode cX0_fault 24 = .ok (.ireturn, 1) := dk_172 (dk_at dksX0_fault_1 0 rfl rfl)
abbrev cX0_by : ByteArray := prog_1_method_17_code
def yX0_by : MethodName := ⟨RX0, "by", "(I)Z"⟩
def dkwX0_by_1 : List UInt8 := [79, 4, 172]
abbrev dktX0_by_1 : List UInt8 := dkwX0_by_1 ++ []
def dkwX0_by_0 : List UInt8 := [27, 2, 159, 0, 13, 42, 27, 182, 0, 108, 154, 0, 5, 3, 172, 42, 180, 0, 21, 180, 0, 62, 5, 27]
abbrev dktX0_by_0 : List UInt8 := dkwX0_by_0 ++ dktX0_by_1
theorem dksX0_by_0 : cX0_by.data.toList.drop 0 = dktX0_by_0 := by decide +kernel
theorem dksX0_by_1 : cX0_by.data.toList.drop 24 = dktX0_by_1 := dk_seg dksX0_by_0 24 rfl rfl
theorem dX0_by_0 : decode cX0_by 0 = .ok (.iload_n 1, 1) := dk_27 (dk_at dksX0_by_0 0 rfl rfl)
theorem dX0_by_1 : decode cX0_by 1 = .ok (.iconst (-1), 1) := dk_2 (dk_at dksX0_by_0 1 rfl rfl)
theorem dX0_by_2 : decode cX0_by 2 = .ok (.if_icmp .eq 13, 3) := dk_159 0 13 (dk_at dksX0_by_0 2 rfl rfl)
theorem dX0_by_5 : decode cX0_by 5 = .ok (.aload_n 0, 1) := dk_42 (dk_at dksX0_by_0 5 rfl rfl)
theorem dX0_by_6 : decode cX0_by 6 = .ok (.iload_n 1, 1) := dk_27 (dk_at dksX0_by_0 6 rfl rfl)
theorem dX0_by_7 : decode cX0_by 7 = .ok (.invokevirtual 108, 3) := dk_182 0 108 (dk_at dksX0_by_0 7 rfl rfl)
theorem dX0_by_10 : decode cX0_by 10 = .ok (.ifCond .ne 5, 3) := dk_154 0 5 (dk_at dksX0_by_0 10 rfl rfl)
theorem dX0_by_13 : decode cX0_by 13 = .ok (.iconst 0, 1) := dk_3 (dk_at dksX0_by_0 13 rfl rfl)
theorem dX0_by_14 : decode cX0_by 14 = .ok (.ireturn, 1) := dk_172 (dk_at dksX0_by_0 14 rfl rfl)
theorem dX0_by_15 : decode cX0_by 15 = .ok (.aload_n 0, 1) := dk_42 (dk_at dksX0_by_0 15 rfl rfl)
theorem dX0_by_16 : decode cX0_by 16 = .ok (.getfield 21, 3) := dk_180 0 21 (dk_at dksX0_by_0 16 rfl rfl)
theorem dX0_by_19 : decode cX0_by 19 = .ok (.getfield 62, 3) := dk_180 0 62 (dk_at dksX0_by_0 19 rfl rfl)
theorem dX0_by_22 : decode cX0_by 22 = .ok (.iconst 2, 1) := dk_5 (dk_at dksX0_by_0 22 rfl rfl)
theorem dX0_by_23 : decode cX0_by 23 = .ok (.iload_n 1, 1) := dk_27 (dk_at dksX0_by_0 23 rfl rfl)
theorem dX0_by_24 : decode cX0_by 24 = .ok (.iastore, 1) := dk_79 (dk_at dksX0_by_1 0 rfl rfl)
theorem dX0_by_25 : decode cX0_by 25 = .ok (.iconst 1, 1) := dk_4 (dk_at dksX0_by_1 1 rfl rfl)
theorem dX0_by_26 : decode cX0_by 26 = .ok (.ireturn, 1) := dk_172 (dk_at dksX0_by_1 2 rfl rfl)
abbrev cX0_isText : ByteArray := prog_1_method_16_code
def yX0_isText : MethodName := ⟨RX0, "isText", "(I)Z"⟩
def dkwX0_isText_0 : List UInt8 := [27, 3, 42, 180, 0, 21, 180, 0, 62, 4, 46, 4, 100, 184, 0, 58, 172]
abbrev dktX0_isText_0 : List UInt8 := dkwX0_isText_0 ++ []
theorem dksX0_isText_0 : cX0_isText.data.toList.drop 0 = dktX0_isText_0 := by decide +kernel
theorem dX0_isText_0 : decode cX0_isText 0 = .ok (.iload_n 1, 1) := dk_27 (dk_at dksX0_isText_0 0 rfl rfl)
theorem dX0_isText_1 : decode cX0_isText 1 = .ok (.iconst 0, 1) := dk_3 (dk_at dksX0_isText_0 1 rfl rfl)
theorem dX0_isText_2 : decode cX0_isText 2 = .ok (.aload_n 0, 1) := dk_42 (dk_at dksX0_isText_0 2 rfl rfl)
theorem dX0_isText_3 : decode cX0_isText 3 = .ok (.getfield 21, 3) := dk_180 0 21 (dk_at dksX0_isText_0 3 rfl rfl)
theorem dX0_isText_6 : decode cX0_isText 6 = .ok (.getfield 62, 3) := dk_180 0 62 (dk_at dksX0_isText_0 6 rfl rfl)
theorem dX0_isText_9 : decode cX0_isText 9 = .ok (.iconst 1, 1) := dk_4 (dk_at dksX0_isText_0 9 rfl rfl)
theorem dX0_isText_10 : decode cX0_isText 10 = .ok (.iaload, 1) := dk_46 (dk_at dksX0_isText_0 10 rfl rfl)
theorem dX0_isText_11 : decode cX0_isText 11 = .ok (.iconst 1, 1) := dk_4 (dk_at dksX0_isText_0 11 rfl rfl)
theorem dX0_isText_12 : decode cX0_isText 12 = .ok (.isub, 1) := dk_100 (dk_at dksX0_isText_0 12 rfl rfl)
theorem dX0_isText_13 : decode cX0_isText 13 = .ok (.invokestatic 58, 3) := dk_184 0 58 (dk_at dksX0_isText_0 13 rfl rfl)
theorem dX0_isText_16 : decode cX0_isText 16 = .ok (.ireturn, 1) := dk_172 (dk_at dksX0_isText_0 16 rfl rfl)
abbrev cX0_run : ByteArray := prog_1_method_27_code
def yX0_run : MethodName := ⟨RX0, "run", "(II)I"⟩
def dkwX0_run_1 : List UInt8 := [42, 42, 180, 0, 21, 180, 0, 65, 27, 28, 182, 0, 168, 172]
abbrev dktX0_run_1 : List UInt8 := dkwX0_run_1 ++ []
def dkwX0_run_0 : List UInt8 := [42, 27, 182, 0, 162, 153, 0, 10, 28, 184, 0, 68, 154, 0, 5, 2, 172, 42, 180, 0, 21, 182, 0, 165]
abbrev dktX0_run_0 : List UInt8 := dkwX0_run_0 ++ dktX0_run_1
theorem dksX0_run_0 : cX0_run.data.toList.drop 0 = dktX0_run_0 := by decide +kernel
theorem dksX0_run_1 : cX0_run.data.toList.drop 24 = dktX0_run_1 := dk_seg dksX0_run_0 24 rfl rfl
theorem dX0_run_0 : decode cX0_run 0 = .ok (.aload_n 0, 1) := dk_42 (dk_at dksX0_run_0 0 rfl rfl)
theorem dX0_run_1 : decode cX0_run 1 = .ok (.iload_n 1, 1) := dk_27 (dk_at dksX0_run_0 1 rfl rfl)
theorem dX0_run_2 : decode cX0_run 2 = .ok (.invokevirtual 162, 3) := dk_182 0 162 (dk_at dksX0_run_0 2 rfl rfl)
theorem dX0_run_5 : decode cX0_run 5 = .ok (.ifCond .eq 10, 3) := dk_153 0 10 (dk_at dksX0_run_0 5 rfl rfl)
theorem dX0_run_8 : decode cX0_run 8 = .ok (.iload_n 2, 1) := dk_28 (dk_at dksX0_run_0 8 rfl rfl)
theorem dX0_run_9 : decode cX0_run 9 = .ok (.invokestatic 68, 3) := dk_184 0 68 (dk_at dksX0_run_0 9 rfl rfl)
theorem dX0_run_12 : decode cX0_run 12 = .ok (.ifCond .ne 5, 3) := dk_154 0 5 (dk_at dksX0_run_0 12 rfl rfl)
theorem dX0_run_15 : decode cX0_run 15 = .ok (.iconst (-1), 1) := dk_2 (dk_at dksX0_run_0 15 rfl rfl)
theorem dX0_run_16 : decode cX0_run 16 = .ok (.ireturn, 1) := dk_172 (dk_at dksX0_run_0 16 rfl rfl)
theorem dX0_run_17 : decode cX0_run 17 = .ok (.aload_n 0, 1) := dk_42 (dk_at dksX0_run_0 17 rfl rfl)
theorem dX0_run_18 : decode cX0_run 18 = .ok (.getfield 21, 3) := dk_180 0 21 (dk_at dksX0_run_0 18 rfl rfl)
theorem dX0_run_21 : decode cX0_run 21 = .ok (.invokevirtual 165, 3) := dk_182 0 165 (dk_at dksX0_run_0 21 rfl rfl)
theorem dX0_run_24 : decode cX0_run 24 = .ok (.aload_n 0, 1) := dk_42 (dk_at dksX0_run_1 0 rfl rfl)
theorem dX0_run_25 : decode cX0_run 25 = .ok (.aload_n 0, 1) := dk_42 (dk_at dksX0_run_1 1 rfl rfl)
theorem dX0_run_26 : decode cX0_run 26 = .ok (.getfield 21, 3) := dk_180 0 21 (dk_at dksX0_run_1 2 rfl rfl)
theorem dX0_run_29 : decode cX0_run 29 = .ok (.getfield 65, 3) := dk_180 0 65 (dk_at dksX0_run_1 5 rfl rfl)
theorem dX0_run_32 : decode cX0_run 32 = .ok (.iload_n 1, 1) := dk_27 (dk_at dksX0_run_1 8 rfl rfl)
theorem dX0_run_33 : decode cX0_run 33 = .ok (.iload_n 2, 1) := dk_28 (dk_at dksX0_run_1 9 rfl rfl)
theorem dX0_run_34 : decode cX0_run 34 = .ok (.invokevirtual 168, 3) := dk_182 0 168 (dk_at dksX0_run_1 10 rfl rfl)
theorem dX0_run_37 : decode cX0_run 37 = .ok (.ireturn, 1) := dk_172 (dk_at dksX0_run_1 13 rfl rfl)
abbrev cX0_canRun : ByteArray := prog_1_method_26_code
def yX0_canRun : MethodName := ⟨RX0, "canRun", "(I)Z"⟩
def dkwX0_canRun_1 : List UInt8 := [4, 167, 0, 4, 3, 172]
abbrev dktX0_canRun_1 : List UInt8 := dkwX0_canRun_1 ++ []
def dkwX0_canRun_0 : List UInt8 := [42, 27, 182, 0, 159, 153, 0, 23, 42, 180, 0, 21, 180, 0, 65, 16, 62, 27, 96, 46, 2, 160, 0, 7]
abbrev dktX0_canRun_0 : List UInt8 := dkwX0_canRun_0 ++ dktX0_canRun_1
theorem dksX0_canRun_0 : cX0_canRun.data.toList.drop 0 = dktX0_canRun_0 := by decide +kernel
theorem dksX0_canRun_1 : cX0_canRun.data.toList.drop 24 = dktX0_canRun_1 := dk_seg dksX0_canRun_0 24 rfl rfl
theorem dX0_canRun_0 : decode cX0_canRun 0 = .ok (.aload_n 0, 1) := dk_42 (dk_at dksX0_canRun_0 0 rfl rfl)
theorem dX0_canRun_1 : decode cX0_canRun 1 = .ok (.iload_n 1, 1) := dk_27 (dk_at dksX0_canRun_0 1 rfl rfl)
theorem dX0_canRun_2 : decode cX0_canRun 2 = .ok (.invokevirtual 159, 3) := dk_182 0 159 (dk_at dksX0_canRun_0 2 rfl rfl)
theorem dX0_canRun_5 : decode cX0_canRun 5 = .ok (.ifCond .eq 23, 3) := dk_153 0 23 (dk_at dksX0_canRun_0 5 rfl rfl)
theorem dX0_canRun_8 : decode cX0_canRun 8 = .ok (.aload_n 0, 1) := dk_42 (dk_at dksX0_canRun_0 8 rfl rfl)
theorem dX0_canRun_9 : decode cX0_canRun 9 = .ok (.getfield 21, 3) := dk_180 0 21 (dk_at dksX0_canRun_0 9 rfl rfl)
theorem dX0_canRun_12 : decode cX0_canRun 12 = .ok (.getfield 65, 3) := dk_180 0 65 (dk_at dksX0_canRun_0 12 rfl rfl)
theorem dX0_canRun_15 : decode cX0_canRun 15 = .ok (.bipush 62, 2) := dk_16 62 (dk_at dksX0_canRun_0 15 rfl rfl)
theorem dX0_canRun_17 : decode cX0_canRun 17 = .ok (.iload_n 1, 1) := dk_27 (dk_at dksX0_canRun_0 17 rfl rfl)
theorem dX0_canRun_18 : decode cX0_canRun 18 = .ok (.iadd, 1) := dk_96 (dk_at dksX0_canRun_0 18 rfl rfl)
theorem dX0_canRun_19 : decode cX0_canRun 19 = .ok (.iaload, 1) := dk_46 (dk_at dksX0_canRun_0 19 rfl rfl)
theorem dX0_canRun_20 : decode cX0_canRun 20 = .ok (.iconst (-1), 1) := dk_2 (dk_at dksX0_canRun_0 20 rfl rfl)
theorem dX0_canRun_21 : decode cX0_canRun 21 = .ok (.if_icmp .ne 7, 3) := dk_160 0 7 (dk_at dksX0_canRun_0 21 rfl rfl)
theorem dX0_canRun_24 : decode cX0_canRun 24 = .ok (.iconst 1, 1) := dk_4 (dk_at dksX0_canRun_1 0 rfl rfl)
theorem dX0_canRun_25 : decode cX0_canRun 25 = .ok (.goto 4, 3) := dk_167 0 4 (dk_at dksX0_canRun_1 1 rfl rfl)
theorem dX0_canRun_28 : decode cX0_canRun 28 = .ok (.iconst 0, 1) := dk_3 (dk_at dksX0_canRun_1 4 rfl rfl)
theorem dX0_canRun_29 : decode cX0_canRun 29 = .ok (.ireturn, 1) := dk_172 (dk_at dksX0_canRun_1 5 rfl rfl)
abbrev cX0_isChild : ByteArray := prog_1_method_6_code
def yX0_isChild : MethodName := ⟨RX0, "isChild", "(I)Z"⟩
def dkwX0_isChild_0 : List UInt8 := [27, 3, 42, 180, 0, 21, 180, 0, 62, 3, 46, 4, 100, 184, 0, 58, 172]
abbrev dktX0_isChild_0 : List UInt8 := dkwX0_isChild_0 ++ []
theorem dksX0_isChild_0 : cX0_isChild.data.toList.drop 0 = dktX0_isChild_0 := by decide +kernel
theorem dX0_isChild_0 : decode cX0_isChild 0 = .ok (.iload_n 1, 1) := dk_27 (dk_at dksX0_isChild_0 0 rfl rfl)
theorem dX0_isChild_1 : decode cX0_isChild 1 = .ok (.iconst 0, 1) := dk_3 (dk_at dksX0_isChild_0 1 rfl rfl)
theorem dX0_isChild_2 : decode cX0_isChild 2 = .ok (.aload_n 0, 1) := dk_42 (dk_at dksX0_isChild_0 2 rfl rfl)
theorem dX0_isChild_3 : decode cX0_isChild 3 = .ok (.getfield 21, 3) := dk_180 0 21 (dk_at dksX0_isChild_0 3 rfl rfl)
theorem dX0_isChild_6 : decode cX0_isChild 6 = .ok (.getfield 62, 3) := dk_180 0 62 (dk_at dksX0_isChild_0 6 rfl rfl)
theorem dX0_isChild_9 : decode cX0_isChild 9 = .ok (.iconst 0, 1) := dk_3 (dk_at dksX0_isChild_0 9 rfl rfl)
theorem dX0_isChild_10 : decode cX0_isChild 10 = .ok (.iaload, 1) := dk_46 (dk_at dksX0_isChild_0 10 rfl rfl)
theorem dX0_isChild_11 : decode cX0_isChild 11 = .ok (.iconst 1, 1) := dk_4 (dk_at dksX0_isChild_0 11 rfl rfl)
theorem dX0_isChild_12 : decode cX0_isChild 12 = .ok (.isub, 1) := dk_100 (dk_at dksX0_isChild_0 12 rfl rfl)
theorem dX0_isChild_13 : decode cX0_isChild 13 = .ok (.invokestatic 58, 3) := dk_184 0 58 (dk_at dksX0_isChild_0 13 rfl rfl)
theorem dX0_isChild_16 : decode cX0_isChild 16 = .ok (.ireturn, 1) := dk_172 (dk_at dksX0_isChild_0 16 rfl rfl)
abbrev cX0_runs : ByteArray := prog_1_method_25_code
def yX0_runs : MethodName := ⟨RX0, "runs", "([III)I"⟩
def dkwX0_runs_5 : List UInt8 := [172]
abbrev dktX0_runs_5 : List UInt8 := dkwX0_runs_5 ++ []
def dkwX0_runs_4 : List UInt8 := [132, 6, 1, 167, 255, 169, 43, 16, 62, 28, 96, 21, 4, 79, 43, 28, 29, 21, 4, 184, 0, 155, 21, 4]
abbrev dktX0_runs_4 : List UInt8 := dkwX0_runs_4 ++ dktX0_runs_5
def dkwX0_runs_3 : List UInt8 := [182, 0, 144, 43, 28, 21, 7, 21, 4, 182, 0, 151, 161, 0, 7, 4, 167, 0, 4, 3, 54, 5]
abbrev dktX0_runs_3 : List UInt8 := dkwX0_runs_3 ++ dktX0_runs_4
def dkwX0_runs_2 : List UInt8 := [5, 21, 7, 96, 46, 4, 159, 0, 6, 167, 0, 36, 132, 4, 1, 43, 16, 10, 184, 0, 147, 42, 42]
abbrev dktX0_runs_2 : List UInt8 := dkwX0_runs_2 ++ dktX0_runs_3
def dkwX0_runs_1 : List UInt8 := [96, 16, 30, 112, 54, 7, 43, 5, 21, 7, 96, 46, 6, 159, 0, 7, 4, 167, 0, 4, 3, 54, 5, 43]
abbrev dktX0_runs_1 : List UInt8 := dkwX0_runs_1 ++ dktX0_runs_2
def dkwX0_runs_0 : List UInt8 := [3, 54, 4, 4, 54, 5, 3, 54, 6, 21, 6, 16, 60, 162, 0, 86, 21, 5, 153, 0, 81, 29, 21, 6]
abbrev dktX0_runs_0 : List UInt8 := dkwX0_runs_0 ++ dktX0_runs_1
theorem dksX0_runs_0 : cX0_runs.data.toList.drop 0 = dktX0_runs_0 := by decide +kernel
theorem dksX0_runs_1 : cX0_runs.data.toList.drop 24 = dktX0_runs_1 := dk_seg dksX0_runs_0 24 rfl rfl
theorem dksX0_runs_2 : cX0_runs.data.toList.drop 48 = dktX0_runs_2 := dk_seg dksX0_runs_1 24 rfl rfl
theorem dksX0_runs_3 : cX0_runs.data.toList.drop 71 = dktX0_runs_3 := dk_seg dksX0_runs_2 23 rfl rfl
theorem dksX0_runs_4 : cX0_runs.data.toList.drop 93 = dktX0_runs_4 := dk_seg dksX0_runs_3 22 rfl rfl
theorem dksX0_runs_5 : cX0_runs.data.toList.drop 117 = dktX0_runs_5 := dk_seg dksX0_runs_4 24 rfl rfl
theorem dX0_runs_0 : decode cX0_runs 0 = .ok (.iconst 0, 1) := dk_3 (dk_at dksX0_runs_0 0 rfl rfl)
theorem dX0_runs_1 : decode cX0_runs 1 = .ok (.istore 4, 2) := dk_54 4 (dk_at dksX0_runs_0 1 rfl rfl)
theorem dX0_runs_3 : decode cX0_runs 3 = .ok (.iconst 1, 1) := dk_4 (dk_at dksX0_runs_0 3 rfl rfl)
theorem dX0_runs_4 : decode cX0_runs 4 = .ok (.istore 5, 2) := dk_54 5 (dk_at dksX0_runs_0 4 rfl rfl)
theorem dX0_runs_6 : decode cX0_runs 6 = .ok (.iconst 0, 1) := dk_3 (dk_at dksX0_runs_0 6 rfl rfl)
theorem dX0_runs_7 : decode cX0_runs 7 = .ok (.istore 6, 2) := dk_54 6 (dk_at dksX0_runs_0 7 rfl rfl)
theorem dX0_runs_9 : decode cX0_runs 9 = .ok (.iload 6, 2) := dk_21 6 (dk_at dksX0_runs_0 9 rfl rfl)
theorem dX0_runs_11 : decode cX0_runs 11 = .ok (.bipush 60, 2) := dk_16 60 (dk_at dksX0_runs_0 11 rfl rfl)
theorem dX0_runs_13 : decode cX0_runs 13 = .ok (.if_icmp .ge 86, 3) := dk_162 0 86 (dk_at dksX0_runs_0 13 rfl rfl)
theorem dX0_runs_16 : decode cX0_runs 16 = .ok (.iload 5, 2) := dk_21 5 (dk_at dksX0_runs_0 16 rfl rfl)
theorem dX0_runs_18 : decode cX0_runs 18 = .ok (.ifCond .eq 81, 3) := dk_153 0 81 (dk_at dksX0_runs_0 18 rfl rfl)
theorem dX0_runs_21 : decode cX0_runs 21 = .ok (.iload_n 3, 1) := dk_29 (dk_at dksX0_runs_0 21 rfl rfl)
theorem dX0_runs_22 : decode cX0_runs 22 = .ok (.iload 6, 2) := dk_21 6 (dk_at dksX0_runs_0 22 rfl rfl)
theorem dX0_runs_24 : decode cX0_runs 24 = .ok (.iadd, 1) := dk_96 (dk_at dksX0_runs_1 0 rfl rfl)
theorem dX0_runs_25 : decode cX0_runs 25 = .ok (.bipush 30, 2) := dk_16 30 (dk_at dksX0_runs_1 1 rfl rfl)
theorem dX0_runs_27 : decode cX0_runs 27 = .ok (.irem, 1) := dk_112 (dk_at dksX0_runs_1 3 rfl rfl)
theorem dX0_runs_28 : decode cX0_runs 28 = .ok (.istore 7, 2) := dk_54 7 (dk_at dksX0_runs_1 4 rfl rfl)
theorem dX0_runs_30 : decode cX0_runs 30 = .ok (.aload_n 1, 1) := dk_43 (dk_at dksX0_runs_1 6 rfl rfl)
theorem dX0_runs_31 : decode cX0_runs 31 = .ok (.iconst 2, 1) := dk_5 (dk_at dksX0_runs_1 7 rfl rfl)
theorem dX0_runs_32 : decode cX0_runs 32 = .ok (.iload 7, 2) := dk_21 7 (dk_at dksX0_runs_1 8 rfl rfl)
theorem dX0_runs_34 : decode cX0_runs 34 = .ok (.iadd, 1) := dk_96 (dk_at dksX0_runs_1 10 rfl rfl)
theorem dX0_runs_35 : decode cX0_runs 35 = .ok (.iaload, 1) := dk_46 (dk_at dksX0_runs_1 11 rfl rfl)
theorem dX0_runs_36 : decode cX0_runs 36 = .ok (.iconst 3, 1) := dk_6 (dk_at dksX0_runs_1 12 rfl rfl)
theorem dX0_runs_37 : decode cX0_runs 37 = .ok (.if_icmp .eq 7, 3) := dk_159 0 7 (dk_at dksX0_runs_1 13 rfl rfl)
theorem dX0_runs_40 : decode cX0_runs 40 = .ok (.iconst 1, 1) := dk_4 (dk_at dksX0_runs_1 16 rfl rfl)
theorem dX0_runs_41 : decode cX0_runs 41 = .ok (.goto 4, 3) := dk_167 0 4 (dk_at dksX0_runs_1 17 rfl rfl)
theorem dX0_runs_44 : decode cX0_runs 44 = .ok (.iconst 0, 1) := dk_3 (dk_at dksX0_runs_1 20 rfl rfl)
theorem dX0_runs_45 : decode cX0_runs 45 = .ok (.istore 5, 2) := dk_54 5 (dk_at dksX0_runs_1 21 rfl rfl)
theorem dX0_runs_47 : decode cX0_runs 47 = .ok (.aload_n 1, 1) := dk_43 (dk_at dksX0_runs_1 23 rfl rfl)
theorem dX0_runs_48 : decode cX0_runs 48 = .ok (.iconst 2, 1) := dk_5 (dk_at dksX0_runs_2 0 rfl rfl)
theorem dX0_runs_49 : decode cX0_runs 49 = .ok (.iload 7, 2) := dk_21 7 (dk_at dksX0_runs_2 1 rfl rfl)
theorem dX0_runs_51 : decode cX0_runs 51 = .ok (.iadd, 1) := dk_96 (dk_at dksX0_runs_2 3 rfl rfl)
theorem dX0_runs_52 : decode cX0_runs 52 = .ok (.iaload, 1) := dk_46 (dk_at dksX0_runs_2 4 rfl rfl)
theorem dX0_runs_53 : decode cX0_runs 53 = .ok (.iconst 1, 1) := dk_4 (dk_at dksX0_runs_2 5 rfl rfl)
theorem dX0_runs_54 : decode cX0_runs 54 = .ok (.if_icmp .eq 6, 3) := dk_159 0 6 (dk_at dksX0_runs_2 6 rfl rfl)
theorem dX0_runs_57 : decode cX0_runs 57 = .ok (.goto 36, 3) := dk_167 0 36 (dk_at dksX0_runs_2 9 rfl rfl)
theorem dX0_runs_60 : decode cX0_runs 60 = .ok (.iinc 4 1, 3) := dk_132 4 1 (dk_at dksX0_runs_2 12 rfl rfl)
theorem dX0_runs_63 : decode cX0_runs 63 = .ok (.aload_n 1, 1) := dk_43 (dk_at dksX0_runs_2 15 rfl rfl)
theorem dX0_runs_64 : decode cX0_runs 64 = .ok (.bipush 10, 2) := dk_16 10 (dk_at dksX0_runs_2 16 rfl rfl)
theorem dX0_runs_66 : decode cX0_runs 66 = .ok (.invokestatic 147, 3) := dk_184 0 147 (dk_at dksX0_runs_2 18 rfl rfl)
theorem dX0_runs_69 : decode cX0_runs 69 = .ok (.aload_n 0, 1) := dk_42 (dk_at dksX0_runs_2 21 rfl rfl)
theorem dX0_runs_70 : decode cX0_runs 70 = .ok (.aload_n 0, 1) := dk_42 (dk_at dksX0_runs_2 22 rfl rfl)
theorem dX0_runs_71 : decode cX0_runs 71 = .ok (.invokevirtual 144, 3) := dk_182 0 144 (dk_at dksX0_runs_3 0 rfl rfl)
theorem dX0_runs_74 : decode cX0_runs 74 = .ok (.aload_n 1, 1) := dk_43 (dk_at dksX0_runs_3 3 rfl rfl)
theorem dX0_runs_75 : decode cX0_runs 75 = .ok (.iload_n 2, 1) := dk_28 (dk_at dksX0_runs_3 4 rfl rfl)
theorem dX0_runs_76 : decode cX0_runs 76 = .ok (.iload 7, 2) := dk_21 7 (dk_at dksX0_runs_3 5 rfl rfl)
theorem dX0_runs_78 : decode cX0_runs 78 = .ok (.iload 4, 2) := dk_21 4 (dk_at dksX0_runs_3 7 rfl rfl)
theorem dX0_runs_80 : decode cX0_runs 80 = .ok (.invokevirtual 151, 3) := dk_182 0 151 (dk_at dksX0_runs_3 9 rfl rfl)
theorem dX0_runs_83 : decode cX0_runs 83 = .ok (.if_icmp .lt 7, 3) := dk_161 0 7 (dk_at dksX0_runs_3 12 rfl rfl)
theorem dX0_runs_86 : decode cX0_runs 86 = .ok (.iconst 1, 1) := dk_4 (dk_at dksX0_runs_3 15 rfl rfl)
theorem dX0_runs_87 : decode cX0_runs 87 = .ok (.goto 4, 3) := dk_167 0 4 (dk_at dksX0_runs_3 16 rfl rfl)
theorem dX0_runs_90 : decode cX0_runs 90 = .ok (.iconst 0, 1) := dk_3 (dk_at dksX0_runs_3 19 rfl rfl)
theorem dX0_runs_91 : decode cX0_runs 91 = .ok (.istore 5, 2) := dk_54 5 (dk_at dksX0_runs_3 20 rfl rfl)
theorem dX0_runs_93 : decode cX0_runs 93 = .ok (.iinc 6 1, 3) := dk_132 6 1 (dk_at dksX0_runs_4 0 rfl rfl)
theorem dX0_runs_96 : decode cX0_runs 96 = .ok (.goto (-87), 3) := dk_167 255 169 (dk_at dksX0_runs_4 3 rfl rfl)
theorem dX0_runs_99 : decode cX0_runs 99 = .ok (.aload_n 1, 1) := dk_43 (dk_at dksX0_runs_4 6 rfl rfl)
theorem dX0_runs_100 : decode cX0_runs 100 = .ok (.bipush 62, 2) := dk_16 62 (dk_at dksX0_runs_4 7 rfl rfl)
theorem dX0_runs_102 : decode cX0_runs 102 = .ok (.iload_n 2, 1) := dk_28 (dk_at dksX0_runs_4 9 rfl rfl)
theorem dX0_runs_103 : decode cX0_runs 103 = .ok (.iadd, 1) := dk_96 (dk_at dksX0_runs_4 10 rfl rfl)
theorem dX0_runs_104 : decode cX0_runs 104 = .ok (.iload 4, 2) := dk_21 4 (dk_at dksX0_runs_4 11 rfl rfl)
theorem dX0_runs_106 : decode cX0_runs 106 = .ok (.iastore, 1) := dk_79 (dk_at dksX0_runs_4 13 rfl rfl)
theorem dX0_runs_107 : decode cX0_runs 107 = .ok (.aload_n 1, 1) := dk_43 (dk_at dksX0_runs_4 14 rfl rfl)
theorem dX0_runs_108 : decode cX0_runs 108 = .ok (.iload_n 2, 1) := dk_28 (dk_at dksX0_runs_4 15 rfl rfl)
theorem dX0_runs_109 : decode cX0_runs 109 = .ok (.iload_n 3, 1) := dk_29 (dk_at dksX0_runs_4 16 rfl rfl)
theorem dX0_runs_110 : decode cX0_runs 110 = .ok (.iload 4, 2) := dk_21 4 (dk_at dksX0_runs_4 17 rfl rfl)
theorem dX0_runs_112 : decode cX0_runs 112 = .ok (.invokestatic 155, 3) := dk_184 0 155 (dk_at dksX0_runs_4 19 rfl rfl)
theorem dX0_runs_115 : decode cX0_runs 115 = .ok (.iload 4, 2) := dk_21 4 (dk_at dksX0_runs_4 22 rfl rfl)
theorem dX0_runs_117 : decode cX0_runs 117 = .ok (.ireturn, 1) := dk_172 (dk_at dksX0_runs_5 0 rfl rfl)
abbrev cX0_drawn : ByteArray := prog_1_method_23_code
def yX0_drawn : MethodName := ⟨RX0, "drawn", "([II)I"⟩
def dkwX0_drawn_1 : List UInt8 := [28, 172]
abbrev dktX0_drawn_1 : List UInt8 := dkwX0_drawn_1 ++ []
def dkwX0_drawn_0 : List UInt8 := [42, 4, 46, 27, 112, 61, 42, 4, 42, 4, 46, 17, 1, 247, 104, 17, 1, 133, 96, 17, 119, 227, 112, 79]
abbrev dktX0_drawn_0 : List UInt8 := dkwX0_drawn_0 ++ dktX0_drawn_1
theorem dksX0_drawn_0 : cX0_drawn.data.toList.drop 0 = dktX0_drawn_0 := by decide +kernel
theorem dksX0_drawn_1 : cX0_drawn.data.toList.drop 24 = dktX0_drawn_1 := dk_seg dksX0_drawn_0 24 rfl rfl
theorem dX0_drawn_0 : decode cX0_drawn 0 = .ok (.aload_n 0, 1) := dk_42 (dk_at dksX0_drawn_0 0 rfl rfl)
theorem dX0_drawn_1 : decode cX0_drawn 1 = .ok (.iconst 1, 1) := dk_4 (dk_at dksX0_drawn_0 1 rfl rfl)
theorem dX0_drawn_2 : decode cX0_drawn 2 = .ok (.iaload, 1) := dk_46 (dk_at dksX0_drawn_0 2 rfl rfl)
theorem dX0_drawn_3 : decode cX0_drawn 3 = .ok (.iload_n 1, 1) := dk_27 (dk_at dksX0_drawn_0 3 rfl rfl)
theorem dX0_drawn_4 : decode cX0_drawn 4 = .ok (.irem, 1) := dk_112 (dk_at dksX0_drawn_0 4 rfl rfl)
theorem dX0_drawn_5 : decode cX0_drawn 5 = .ok (.istore_n 2, 1) := dk_61 (dk_at dksX0_drawn_0 5 rfl rfl)
theorem dX0_drawn_6 : decode cX0_drawn 6 = .ok (.aload_n 0, 1) := dk_42 (dk_at dksX0_drawn_0 6 rfl rfl)
theorem dX0_drawn_7 : decode cX0_drawn 7 = .ok (.iconst 1, 1) := dk_4 (dk_at dksX0_drawn_0 7 rfl rfl)
theorem dX0_drawn_8 : decode cX0_drawn 8 = .ok (.aload_n 0, 1) := dk_42 (dk_at dksX0_drawn_0 8 rfl rfl)
theorem dX0_drawn_9 : decode cX0_drawn 9 = .ok (.iconst 1, 1) := dk_4 (dk_at dksX0_drawn_0 9 rfl rfl)
theorem dX0_drawn_10 : decode cX0_drawn 10 = .ok (.iaload, 1) := dk_46 (dk_at dksX0_drawn_0 10 rfl rfl)
theorem dX0_drawn_11 : decode cX0_drawn 11 = .ok (.sipush 503, 3) := dk_17 1 247 (dk_at dksX0_drawn_0 11 rfl rfl)
theorem dX0_drawn_14 : decode cX0_drawn 14 = .ok (.imul, 1) := dk_104 (dk_at dksX0_drawn_0 14 rfl rfl)
theorem dX0_drawn_15 : decode cX0_drawn 15 = .ok (.sipush 389, 3) := dk_17 1 133 (dk_at dksX0_drawn_0 15 rfl rfl)
theorem dX0_drawn_18 : decode cX0_drawn 18 = .ok (.iadd, 1) := dk_96 (dk_at dksX0_drawn_0 18 rfl rfl)
theorem dX0_drawn_19 : decode cX0_drawn 19 = .ok (.sipush 30691, 3) := dk_17 119 227 (dk_at dksX0_drawn_0 19 rfl rfl)
theorem dX0_drawn_22 : decode cX0_drawn 22 = .ok (.irem, 1) := dk_112 (dk_at dksX0_drawn_0 22 rfl rfl)
theorem dX0_drawn_23 : decode cX0_drawn 23 = .ok (.iastore, 1) := dk_79 (dk_at dksX0_drawn_0 23 rfl rfl)
theorem dX0_drawn_24 : decode cX0_drawn 24 = .ok (.iload_n 2, 1) := dk_28 (dk_at dksX0_drawn_1 0 rfl rfl)
theorem dX0_drawn_25 : decode cX0_drawn 25 = .ok (.ireturn, 1) := dk_172 (dk_at dksX0_drawn_1 1 rfl rfl)
abbrev cX0_rules : ByteArray := prog_1_method_18_code
def yX0_rules : MethodName := ⟨RX0, "rules", "()LRailingsCount$Text;"⟩
def dkwX0_rules_1 : List UInt8 := [180, 0, 89, 42, 180, 0, 21, 180, 0, 62, 5, 46, 50, 176]
abbrev dktX0_rules_1 : List UInt8 := dkwX0_rules_1 ++ []
def dkwX0_rules_0 : List UInt8 := [42, 180, 0, 21, 180, 0, 62, 5, 46, 2, 160, 0, 9, 178, 0, 111, 167, 0, 20, 42, 180, 0, 21]
abbrev dktX0_rules_0 : List UInt8 := dkwX0_rules_0 ++ dktX0_rules_1
theorem dksX0_rules_0 : cX0_rules.data.toList.drop 0 = dktX0_rules_0 := by decide +kernel
theorem dksX0_rules_1 : cX0_rules.data.toList.drop 23 = dktX0_rules_1 := dk_seg dksX0_rules_0 23 rfl rfl
theorem dX0_rules_0 : decode cX0_rules 0 = .ok (.aload_n 0, 1) := dk_42 (dk_at dksX0_rules_0 0 rfl rfl)
theorem dX0_rules_1 : decode cX0_rules 1 = .ok (.getfield 21, 3) := dk_180 0 21 (dk_at dksX0_rules_0 1 rfl rfl)
theorem dX0_rules_4 : decode cX0_rules 4 = .ok (.getfield 62, 3) := dk_180 0 62 (dk_at dksX0_rules_0 4 rfl rfl)
theorem dX0_rules_7 : decode cX0_rules 7 = .ok (.iconst 2, 1) := dk_5 (dk_at dksX0_rules_0 7 rfl rfl)
theorem dX0_rules_8 : decode cX0_rules 8 = .ok (.iaload, 1) := dk_46 (dk_at dksX0_rules_0 8 rfl rfl)
theorem dX0_rules_9 : decode cX0_rules 9 = .ok (.iconst (-1), 1) := dk_2 (dk_at dksX0_rules_0 9 rfl rfl)
theorem dX0_rules_10 : decode cX0_rules 10 = .ok (.if_icmp .ne 9, 3) := dk_160 0 9 (dk_at dksX0_rules_0 10 rfl rfl)
theorem dX0_rules_13 : decode cX0_rules 13 = .ok (.getstatic 111, 3) := dk_178 0 111 (dk_at dksX0_rules_0 13 rfl rfl)
theorem dX0_rules_16 : decode cX0_rules 16 = .ok (.goto 20, 3) := dk_167 0 20 (dk_at dksX0_rules_0 16 rfl rfl)
theorem dX0_rules_19 : decode cX0_rules 19 = .ok (.aload_n 0, 1) := dk_42 (dk_at dksX0_rules_0 19 rfl rfl)
theorem dX0_rules_20 : decode cX0_rules 20 = .ok (.getfield 21, 3) := dk_180 0 21 (dk_at dksX0_rules_0 20 rfl rfl)
theorem dX0_rules_23 : decode cX0_rules 23 = .ok (.getfield 89, 3) := dk_180 0 89 (dk_at dksX0_rules_1 0 rfl rfl)
theorem dX0_rules_26 : decode cX0_rules 26 = .ok (.aload_n 0, 1) := dk_42 (dk_at dksX0_rules_1 3 rfl rfl)
theorem dX0_rules_27 : decode cX0_rules 27 = .ok (.getfield 21, 3) := dk_180 0 21 (dk_at dksX0_rules_1 4 rfl rfl)
theorem dX0_rules_30 : decode cX0_rules 30 = .ok (.getfield 62, 3) := dk_180 0 62 (dk_at dksX0_rules_1 7 rfl rfl)
theorem dX0_rules_33 : decode cX0_rules 33 = .ok (.iconst 2, 1) := dk_5 (dk_at dksX0_rules_1 10 rfl rfl)
theorem dX0_rules_34 : decode cX0_rules 34 = .ok (.iaload, 1) := dk_46 (dk_at dksX0_rules_1 11 rfl rfl)
theorem dX0_rules_35 : decode cX0_rules 35 = .ok (.aaload, 1) := dk_50 (dk_at dksX0_rules_1 12 rfl rfl)
theorem dX0_rules_36 : decode cX0_rules 36 = .ok (.areturn, 1) := dk_176 (dk_at dksX0_rules_1 13 rfl rfl)
abbrev cX0_catchesBy : ByteArray := prog_1_method_21_code
def yX0_catchesBy : MethodName := ⟨RX0, "catchesBy", "(LRailingsCount$Text;[IIII)I"⟩
def dkwX0_catchesBy_2 : List UInt8 := [180, 0, 39, 16, 7, 29, 79, 42, 43, 3, 16, 10, 182, 0, 141, 172]
abbrev dktX0_catchesBy_2 : List UInt8 := dkwX0_catchesBy_2 ++ []
def dkwX0_catchesBy_1 : List UInt8 := [180, 0, 76, 29, 46, 79, 42, 180, 0, 39, 16, 6, 42, 180, 0, 21, 180, 0, 79, 29, 46, 79, 42]
abbrev dktX0_catchesBy_1 : List UInt8 := dkwX0_catchesBy_1 ++ dktX0_catchesBy_2
def dkwX0_catchesBy_0 : List UInt8 := [42, 44, 21, 4, 182, 0, 137, 42, 180, 0, 39, 7, 21, 5, 79, 42, 180, 0, 39, 8, 42, 180, 0, 21]
abbrev dktX0_catchesBy_0 : List UInt8 := dkwX0_catchesBy_0 ++ dktX0_catchesBy_1
theorem dksX0_catchesBy_0 : cX0_catchesBy.data.toList.drop 0 = dktX0_catchesBy_0 := by decide +kernel
theorem dksX0_catchesBy_1 : cX0_catchesBy.data.toList.drop 24 = dktX0_catchesBy_1 := dk_seg dksX0_catchesBy_0 24 rfl rfl
theorem dksX0_catchesBy_2 : cX0_catchesBy.data.toList.drop 47 = dktX0_catchesBy_2 := dk_seg dksX0_catchesBy_1 23 rfl rfl
theorem dX0_catchesBy_0 : decode cX0_catchesBy 0 = .ok (.aload_n 0, 1) := dk_42 (dk_at dksX0_catchesBy_0 0 rfl rfl)
theorem dX0_catchesBy_1 : decode cX0_catchesBy 1 = .ok (.aload_n 2, 1) := dk_44 (dk_at dksX0_catchesBy_0 1 rfl rfl)
theorem dX0_catchesBy_2 : decode cX0_catchesBy 2 = .ok (.iload 4, 2) := dk_21 4 (dk_at dksX0_catchesBy_0 2 rfl rfl)
theorem dX0_catchesBy_4 : decode cX0_catchesBy 4 = .ok (.invokevirtual 137, 3) := dk_182 0 137 (dk_at dksX0_catchesBy_0 4 rfl rfl)
theorem dX0_catchesBy_7 : decode cX0_catchesBy 7 = .ok (.aload_n 0, 1) := dk_42 (dk_at dksX0_catchesBy_0 7 rfl rfl)
theorem dX0_catchesBy_8 : decode cX0_catchesBy 8 = .ok (.getfield 39, 3) := dk_180 0 39 (dk_at dksX0_catchesBy_0 8 rfl rfl)
theorem dX0_catchesBy_11 : decode cX0_catchesBy 11 = .ok (.iconst 4, 1) := dk_7 (dk_at dksX0_catchesBy_0 11 rfl rfl)
theorem dX0_catchesBy_12 : decode cX0_catchesBy 12 = .ok (.iload 5, 2) := dk_21 5 (dk_at dksX0_catchesBy_0 12 rfl rfl)
theorem dX0_catchesBy_14 : decode cX0_catchesBy 14 = .ok (.iastore, 1) := dk_79 (dk_at dksX0_catchesBy_0 14 rfl rfl)
theorem dX0_catchesBy_15 : decode cX0_catchesBy 15 = .ok (.aload_n 0, 1) := dk_42 (dk_at dksX0_catchesBy_0 15 rfl rfl)
theorem dX0_catchesBy_16 : decode cX0_catchesBy 16 = .ok (.getfield 39, 3) := dk_180 0 39 (dk_at dksX0_catchesBy_0 16 rfl rfl)
theorem dX0_catchesBy_19 : decode cX0_catchesBy 19 = .ok (.iconst 5, 1) := dk_8 (dk_at dksX0_catchesBy_0 19 rfl rfl)
theorem dX0_catchesBy_20 : decode cX0_catchesBy 20 = .ok (.aload_n 0, 1) := dk_42 (dk_at dksX0_catchesBy_0 20 rfl rfl)
theorem dX0_catchesBy_21 : decode cX0_catchesBy 21 = .ok (.getfield 21, 3) := dk_180 0 21 (dk_at dksX0_catchesBy_0 21 rfl rfl)
theorem dX0_catchesBy_24 : decode cX0_catchesBy 24 = .ok (.getfield 76, 3) := dk_180 0 76 (dk_at dksX0_catchesBy_1 0 rfl rfl)
theorem dX0_catchesBy_27 : decode cX0_catchesBy 27 = .ok (.iload_n 3, 1) := dk_29 (dk_at dksX0_catchesBy_1 3 rfl rfl)
theorem dX0_catchesBy_28 : decode cX0_catchesBy 28 = .ok (.iaload, 1) := dk_46 (dk_at dksX0_catchesBy_1 4 rfl rfl)
theorem dX0_catchesBy_29 : decode cX0_catchesBy 29 = .ok (.iastore, 1) := dk_79 (dk_at dksX0_catchesBy_1 5 rfl rfl)
theorem dX0_catchesBy_30 : decode cX0_catchesBy 30 = .ok (.aload_n 0, 1) := dk_42 (dk_at dksX0_catchesBy_1 6 rfl rfl)
theorem dX0_catchesBy_31 : decode cX0_catchesBy 31 = .ok (.getfield 39, 3) := dk_180 0 39 (dk_at dksX0_catchesBy_1 7 rfl rfl)
theorem dX0_catchesBy_34 : decode cX0_catchesBy 34 = .ok (.bipush 6, 2) := dk_16 6 (dk_at dksX0_catchesBy_1 10 rfl rfl)
theorem dX0_catchesBy_36 : decode cX0_catchesBy 36 = .ok (.aload_n 0, 1) := dk_42 (dk_at dksX0_catchesBy_1 12 rfl rfl)
theorem dX0_catchesBy_37 : decode cX0_catchesBy 37 = .ok (.getfield 21, 3) := dk_180 0 21 (dk_at dksX0_catchesBy_1 13 rfl rfl)
theorem dX0_catchesBy_40 : decode cX0_catchesBy 40 = .ok (.getfield 79, 3) := dk_180 0 79 (dk_at dksX0_catchesBy_1 16 rfl rfl)
theorem dX0_catchesBy_43 : decode cX0_catchesBy 43 = .ok (.iload_n 3, 1) := dk_29 (dk_at dksX0_catchesBy_1 19 rfl rfl)
theorem dX0_catchesBy_44 : decode cX0_catchesBy 44 = .ok (.iaload, 1) := dk_46 (dk_at dksX0_catchesBy_1 20 rfl rfl)
theorem dX0_catchesBy_45 : decode cX0_catchesBy 45 = .ok (.iastore, 1) := dk_79 (dk_at dksX0_catchesBy_1 21 rfl rfl)
theorem dX0_catchesBy_46 : decode cX0_catchesBy 46 = .ok (.aload_n 0, 1) := dk_42 (dk_at dksX0_catchesBy_1 22 rfl rfl)
theorem dX0_catchesBy_47 : decode cX0_catchesBy 47 = .ok (.getfield 39, 3) := dk_180 0 39 (dk_at dksX0_catchesBy_2 0 rfl rfl)
theorem dX0_catchesBy_50 : decode cX0_catchesBy 50 = .ok (.bipush 7, 2) := dk_16 7 (dk_at dksX0_catchesBy_2 3 rfl rfl)
theorem dX0_catchesBy_52 : decode cX0_catchesBy 52 = .ok (.iload_n 3, 1) := dk_29 (dk_at dksX0_catchesBy_2 5 rfl rfl)
theorem dX0_catchesBy_53 : decode cX0_catchesBy 53 = .ok (.iastore, 1) := dk_79 (dk_at dksX0_catchesBy_2 6 rfl rfl)
theorem dX0_catchesBy_54 : decode cX0_catchesBy 54 = .ok (.aload_n 0, 1) := dk_42 (dk_at dksX0_catchesBy_2 7 rfl rfl)
theorem dX0_catchesBy_55 : decode cX0_catchesBy 55 = .ok (.aload_n 1, 1) := dk_43 (dk_at dksX0_catchesBy_2 8 rfl rfl)
theorem dX0_catchesBy_56 : decode cX0_catchesBy 56 = .ok (.iconst 0, 1) := dk_3 (dk_at dksX0_catchesBy_2 9 rfl rfl)
theorem dX0_catchesBy_57 : decode cX0_catchesBy 57 = .ok (.bipush 10, 2) := dk_16 10 (dk_at dksX0_catchesBy_2 10 rfl rfl)
theorem dX0_catchesBy_59 : decode cX0_catchesBy 59 = .ok (.invokevirtual 141, 3) := dk_182 0 141 (dk_at dksX0_catchesBy_2 12 rfl rfl)
theorem dX0_catchesBy_62 : decode cX0_catchesBy 62 = .ok (.ireturn, 1) := dk_172 (dk_at dksX0_catchesBy_2 15 rfl rfl)
abbrev cX0_namesOf : ByteArray := prog_1_method_19_code
def yX0_namesOf : MethodName := ⟨RX0, "namesOf", "([II)V"⟩
def dkwX0_namesOf_2 : List UInt8 := [16, 30, 184, 0, 115, 177]
abbrev dktX0_namesOf_2 : List UInt8 := dkwX0_namesOf_2 ++ []
def dkwX0_namesOf_1 : List UInt8 := [96, 46, 79, 42, 180, 0, 39, 6, 43, 16, 32, 28, 96, 46, 79, 43, 5, 42, 180, 0, 39, 16, 8]
abbrev dktX0_namesOf_1 : List UInt8 := dkwX0_namesOf_1 ++ dktX0_namesOf_2
def dkwX0_namesOf_0 : List UInt8 := [42, 180, 0, 39, 3, 43, 3, 46, 79, 42, 180, 0, 39, 4, 28, 79, 42, 180, 0, 39, 5, 43, 5, 28]
abbrev dktX0_namesOf_0 : List UInt8 := dkwX0_namesOf_0 ++ dktX0_namesOf_1
theorem dksX0_namesOf_0 : cX0_namesOf.data.toList.drop 0 = dktX0_namesOf_0 := by decide +kernel
theorem dksX0_namesOf_1 : cX0_namesOf.data.toList.drop 24 = dktX0_namesOf_1 := dk_seg dksX0_namesOf_0 24 rfl rfl
theorem dksX0_namesOf_2 : cX0_namesOf.data.toList.drop 47 = dktX0_namesOf_2 := dk_seg dksX0_namesOf_1 23 rfl rfl
theorem dX0_namesOf_0 : decode cX0_namesOf 0 = .ok (.aload_n 0, 1) := dk_42 (dk_at dksX0_namesOf_0 0 rfl rfl)
theorem dX0_namesOf_1 : decode cX0_namesOf 1 = .ok (.getfield 39, 3) := dk_180 0 39 (dk_at dksX0_namesOf_0 1 rfl rfl)
theorem dX0_namesOf_4 : decode cX0_namesOf 4 = .ok (.iconst 0, 1) := dk_3 (dk_at dksX0_namesOf_0 4 rfl rfl)
theorem dX0_namesOf_5 : decode cX0_namesOf 5 = .ok (.aload_n 1, 1) := dk_43 (dk_at dksX0_namesOf_0 5 rfl rfl)
theorem dX0_namesOf_6 : decode cX0_namesOf 6 = .ok (.iconst 0, 1) := dk_3 (dk_at dksX0_namesOf_0 6 rfl rfl)
theorem dX0_namesOf_7 : decode cX0_namesOf 7 = .ok (.iaload, 1) := dk_46 (dk_at dksX0_namesOf_0 7 rfl rfl)
theorem dX0_namesOf_8 : decode cX0_namesOf 8 = .ok (.iastore, 1) := dk_79 (dk_at dksX0_namesOf_0 8 rfl rfl)
theorem dX0_namesOf_9 : decode cX0_namesOf 9 = .ok (.aload_n 0, 1) := dk_42 (dk_at dksX0_namesOf_0 9 rfl rfl)
theorem dX0_namesOf_10 : decode cX0_namesOf 10 = .ok (.getfield 39, 3) := dk_180 0 39 (dk_at dksX0_namesOf_0 10 rfl rfl)
theorem dX0_namesOf_13 : decode cX0_namesOf 13 = .ok (.iconst 1, 1) := dk_4 (dk_at dksX0_namesOf_0 13 rfl rfl)
theorem dX0_namesOf_14 : decode cX0_namesOf 14 = .ok (.iload_n 2, 1) := dk_28 (dk_at dksX0_namesOf_0 14 rfl rfl)
theorem dX0_namesOf_15 : decode cX0_namesOf 15 = .ok (.iastore, 1) := dk_79 (dk_at dksX0_namesOf_0 15 rfl rfl)
theorem dX0_namesOf_16 : decode cX0_namesOf 16 = .ok (.aload_n 0, 1) := dk_42 (dk_at dksX0_namesOf_0 16 rfl rfl)
theorem dX0_namesOf_17 : decode cX0_namesOf 17 = .ok (.getfield 39, 3) := dk_180 0 39 (dk_at dksX0_namesOf_0 17 rfl rfl)
theorem dX0_namesOf_20 : decode cX0_namesOf 20 = .ok (.iconst 2, 1) := dk_5 (dk_at dksX0_namesOf_0 20 rfl rfl)
theorem dX0_namesOf_21 : decode cX0_namesOf 21 = .ok (.aload_n 1, 1) := dk_43 (dk_at dksX0_namesOf_0 21 rfl rfl)
theorem dX0_namesOf_22 : decode cX0_namesOf 22 = .ok (.iconst 2, 1) := dk_5 (dk_at dksX0_namesOf_0 22 rfl rfl)
theorem dX0_namesOf_23 : decode cX0_namesOf 23 = .ok (.iload_n 2, 1) := dk_28 (dk_at dksX0_namesOf_0 23 rfl rfl)
theorem dX0_namesOf_24 : decode cX0_namesOf 24 = .ok (.iadd, 1) := dk_96 (dk_at dksX0_namesOf_1 0 rfl rfl)
theorem dX0_namesOf_25 : decode cX0_namesOf 25 = .ok (.iaload, 1) := dk_46 (dk_at dksX0_namesOf_1 1 rfl rfl)
theorem dX0_namesOf_26 : decode cX0_namesOf 26 = .ok (.iastore, 1) := dk_79 (dk_at dksX0_namesOf_1 2 rfl rfl)
theorem dX0_namesOf_27 : decode cX0_namesOf 27 = .ok (.aload_n 0, 1) := dk_42 (dk_at dksX0_namesOf_1 3 rfl rfl)
theorem dX0_namesOf_28 : decode cX0_namesOf 28 = .ok (.getfield 39, 3) := dk_180 0 39 (dk_at dksX0_namesOf_1 4 rfl rfl)
theorem dX0_namesOf_31 : decode cX0_namesOf 31 = .ok (.iconst 3, 1) := dk_6 (dk_at dksX0_namesOf_1 7 rfl rfl)
theorem dX0_namesOf_32 : decode cX0_namesOf 32 = .ok (.aload_n 1, 1) := dk_43 (dk_at dksX0_namesOf_1 8 rfl rfl)
theorem dX0_namesOf_33 : decode cX0_namesOf 33 = .ok (.bipush 32, 2) := dk_16 32 (dk_at dksX0_namesOf_1 9 rfl rfl)
theorem dX0_namesOf_35 : decode cX0_namesOf 35 = .ok (.iload_n 2, 1) := dk_28 (dk_at dksX0_namesOf_1 11 rfl rfl)
theorem dX0_namesOf_36 : decode cX0_namesOf 36 = .ok (.iadd, 1) := dk_96 (dk_at dksX0_namesOf_1 12 rfl rfl)
theorem dX0_namesOf_37 : decode cX0_namesOf 37 = .ok (.iaload, 1) := dk_46 (dk_at dksX0_namesOf_1 13 rfl rfl)
theorem dX0_namesOf_38 : decode cX0_namesOf 38 = .ok (.iastore, 1) := dk_79 (dk_at dksX0_namesOf_1 14 rfl rfl)
theorem dX0_namesOf_39 : decode cX0_namesOf 39 = .ok (.aload_n 1, 1) := dk_43 (dk_at dksX0_namesOf_1 15 rfl rfl)
theorem dX0_namesOf_40 : decode cX0_namesOf 40 = .ok (.iconst 2, 1) := dk_5 (dk_at dksX0_namesOf_1 16 rfl rfl)
theorem dX0_namesOf_41 : decode cX0_namesOf 41 = .ok (.aload_n 0, 1) := dk_42 (dk_at dksX0_namesOf_1 17 rfl rfl)
theorem dX0_namesOf_42 : decode cX0_namesOf 42 = .ok (.getfield 39, 3) := dk_180 0 39 (dk_at dksX0_namesOf_1 18 rfl rfl)
theorem dX0_namesOf_45 : decode cX0_namesOf 45 = .ok (.bipush 8, 2) := dk_16 8 (dk_at dksX0_namesOf_1 21 rfl rfl)
theorem dX0_namesOf_47 : decode cX0_namesOf 47 = .ok (.bipush 30, 2) := dk_16 30 (dk_at dksX0_namesOf_2 0 rfl rfl)
theorem dX0_namesOf_49 : decode cX0_namesOf 49 = .ok (.invokestatic 115, 3) := dk_184 0 115 (dk_at dksX0_namesOf_2 2 rfl rfl)
theorem dX0_namesOf_52 : decode cX0_namesOf 52 = .ok (.return_, 1) := dk_177 (dk_at dksX0_namesOf_2 5 rfl rfl)
abbrev cX0_law : ByteArray := prog_1_method_20_code
def yX0_law : MethodName := ⟨RX0, "law", "(LRailingsCount$Text;II)I"⟩
def dkwX0_law_1 : List UInt8 := [185, 0, 127, 2, 0, 3, 29, 184, 0, 133, 172]
abbrev dktX0_law_1 : List UInt8 := dkwX0_law_1 ++ []
def dkwX0_law_0 : List UInt8 := [43, 180, 0, 121, 28, 50, 199, 0, 7, 10, 167, 0, 18, 43, 180, 0, 121, 28, 50, 42, 180, 0, 39]
abbrev dktX0_law_0 : List UInt8 := dkwX0_law_0 ++ dktX0_law_1
theorem dksX0_law_0 : cX0_law.data.toList.drop 0 = dktX0_law_0 := by decide +kernel
theorem dksX0_law_1 : cX0_law.data.toList.drop 23 = dktX0_law_1 := dk_seg dksX0_law_0 23 rfl rfl
theorem dX0_law_0 : decode cX0_law 0 = .ok (.aload_n 1, 1) := dk_43 (dk_at dksX0_law_0 0 rfl rfl)
theorem dX0_law_1 : decode cX0_law 1 = .ok (.getfield 121, 3) := dk_180 0 121 (dk_at dksX0_law_0 1 rfl rfl)
theorem dX0_law_4 : decode cX0_law 4 = .ok (.iload_n 2, 1) := dk_28 (dk_at dksX0_law_0 4 rfl rfl)
theorem dX0_law_5 : decode cX0_law 5 = .ok (.aaload, 1) := dk_50 (dk_at dksX0_law_0 5 rfl rfl)
theorem dX0_law_6 : decode cX0_law 6 = .ok (.ifnonnull 7, 3) := dk_199 0 7 (dk_at dksX0_law_0 6 rfl rfl)
theorem dX0_law_9 : decode cX0_law 9 = .ok (.lconst 1, 1) := dk_10 (dk_at dksX0_law_0 9 rfl rfl)
theorem dX0_law_10 : decode cX0_law 10 = .ok (.goto 18, 3) := dk_167 0 18 (dk_at dksX0_law_0 10 rfl rfl)
theorem dX0_law_13 : decode cX0_law 13 = .ok (.aload_n 1, 1) := dk_43 (dk_at dksX0_law_0 13 rfl rfl)
theorem dX0_law_14 : decode cX0_law 14 = .ok (.getfield 121, 3) := dk_180 0 121 (dk_at dksX0_law_0 14 rfl rfl)
theorem dX0_law_17 : decode cX0_law 17 = .ok (.iload_n 2, 1) := dk_28 (dk_at dksX0_law_0 17 rfl rfl)
theorem dX0_law_18 : decode cX0_law 18 = .ok (.aaload, 1) := dk_50 (dk_at dksX0_law_0 18 rfl rfl)
theorem dX0_law_19 : decode cX0_law 19 = .ok (.aload_n 0, 1) := dk_42 (dk_at dksX0_law_0 19 rfl rfl)
theorem dX0_law_20 : decode cX0_law 20 = .ok (.getfield 39, 3) := dk_180 0 39 (dk_at dksX0_law_0 20 rfl rfl)
theorem dX0_law_23 : decode cX0_law 23 = .ok (.invokeinterface 127 2, 5) := by decide +kernel
theorem dX0_law_28 : decode cX0_law 28 = .ok (.iconst 0, 1) := dk_3 (dk_at dksX0_law_1 5 rfl rfl)
theorem dX0_law_29 : decode cX0_law 29 = .ok (.iload_n 3, 1) := dk_29 (dk_at dksX0_law_1 6 rfl rfl)
theorem dX0_law_30 : decode cX0_law 30 = .ok (.invokestatic 133, 3) := dk_184 0 133 (dk_at dksX0_law_1 7 rfl rfl)
theorem dX0_law_33 : decode cX0_law 33 = .ok (.ireturn, 1) := dk_172 (dk_at dksX0_law_1 10 rfl rfl)
abbrev cX0_held : ByteArray := prog_1_method_3_code
def yX0_held : MethodName := ⟨RX0, "held", "(JII)I"⟩
def dkwX0_held_0 : List UInt8 := [28, 133, 29, 133, 30, 184, 0, 3, 184, 0, 9, 136, 172]
abbrev dktX0_held_0 : List UInt8 := dkwX0_held_0 ++ []
theorem dksX0_held_0 : cX0_held.data.toList.drop 0 = dktX0_held_0 := by decide +kernel
theorem dX0_held_0 : decode cX0_held 0 = .ok (.iload_n 2, 1) := dk_28 (dk_at dksX0_held_0 0 rfl rfl)
theorem dX0_held_1 : decode cX0_held 1 = .ok (.i2l, 1) := dk_133 (dk_at dksX0_held_0 1 rfl rfl)
theorem dX0_held_2 : decode cX0_held 2 = .ok (.iload_n 3, 1) := dk_29 (dk_at dksX0_held_0 2 rfl rfl)
theorem dX0_held_3 : decode cX0_held 3 = .ok (.i2l, 1) := dk_133 (dk_at dksX0_held_0 3 rfl rfl)
theorem dX0_held_4 : decode cX0_held 4 = .ok (.lload_n 0, 1) := dk_30 (dk_at dksX0_held_0 4 rfl rfl)
theorem dX0_held_5 : decode cX0_held 5 = .ok (.invokestatic 3, 3) := dk_184 0 3 (dk_at dksX0_held_0 5 rfl rfl)
theorem dX0_held_8 : decode cX0_held 8 = .ok (.invokestatic 9, 3) := dk_184 0 9 (dk_at dksX0_held_0 8 rfl rfl)
theorem dX0_held_11 : decode cX0_held 11 = .ok (.l2i, 1) := dk_136 (dk_at dksX0_held_0 11 rfl rfl)
theorem dX0_held_12 : decode cX0_held 12 = .ok (.ireturn, 1) := dk_172 (dk_at dksX0_held_0 12 rfl rfl)
abbrev cX0_writes : ByteArray := prog_1_method_24_code
def yX0_writes : MethodName := ⟨RX0, "writes", "([IIII)V"⟩
def dkwX0_writes_3 : List UInt8 := [46, 4, 96, 79, 177]
abbrev dktX0_writes_3 : List UInt8 := dkwX0_writes_3 ++ []
def dkwX0_writes_2 : List UInt8 := [79, 58, 4, 25, 4, 3, 42, 16, 70, 7, 42, 16, 69, 46, 104, 96, 7, 184, 0, 115, 42, 16, 69, 92]
abbrev dktX0_writes_2 : List UInt8 := dkwX0_writes_2 ++ dktX0_writes_3
def dkwX0_writes_1 : List UInt8 := [46, 4, 100, 79, 7, 188, 10, 89, 3, 42, 3, 46, 79, 89, 4, 27, 79, 89, 5, 28, 79, 89, 6, 29]
abbrev dktX0_writes_1 : List UInt8 := dkwX0_writes_1 ++ dktX0_writes_2
def dkwX0_writes_0 : List UInt8 := [42, 16, 69, 46, 16, 30, 160, 0, 22, 42, 16, 74, 42, 16, 70, 16, 116, 184, 0, 115, 42, 16, 69, 92]
abbrev dktX0_writes_0 : List UInt8 := dkwX0_writes_0 ++ dktX0_writes_1
theorem dksX0_writes_0 : cX0_writes.data.toList.drop 0 = dktX0_writes_0 := by decide +kernel
theorem dksX0_writes_1 : cX0_writes.data.toList.drop 24 = dktX0_writes_1 := dk_seg dksX0_writes_0 24 rfl rfl
theorem dksX0_writes_2 : cX0_writes.data.toList.drop 48 = dktX0_writes_2 := dk_seg dksX0_writes_1 24 rfl rfl
theorem dksX0_writes_3 : cX0_writes.data.toList.drop 72 = dktX0_writes_3 := dk_seg dksX0_writes_2 24 rfl rfl
theorem dX0_writes_0 : decode cX0_writes 0 = .ok (.aload_n 0, 1) := dk_42 (dk_at dksX0_writes_0 0 rfl rfl)
theorem dX0_writes_1 : decode cX0_writes 1 = .ok (.bipush 69, 2) := dk_16 69 (dk_at dksX0_writes_0 1 rfl rfl)
theorem dX0_writes_3 : decode cX0_writes 3 = .ok (.iaload, 1) := dk_46 (dk_at dksX0_writes_0 3 rfl rfl)
theorem dX0_writes_4 : decode cX0_writes 4 = .ok (.bipush 30, 2) := dk_16 30 (dk_at dksX0_writes_0 4 rfl rfl)
theorem dX0_writes_6 : decode cX0_writes 6 = .ok (.if_icmp .ne 22, 3) := dk_160 0 22 (dk_at dksX0_writes_0 6 rfl rfl)
theorem dX0_writes_9 : decode cX0_writes 9 = .ok (.aload_n 0, 1) := dk_42 (dk_at dksX0_writes_0 9 rfl rfl)
theorem dX0_writes_10 : decode cX0_writes 10 = .ok (.bipush 74, 2) := dk_16 74 (dk_at dksX0_writes_0 10 rfl rfl)
theorem dX0_writes_12 : decode cX0_writes 12 = .ok (.aload_n 0, 1) := dk_42 (dk_at dksX0_writes_0 12 rfl rfl)
theorem dX0_writes_13 : decode cX0_writes 13 = .ok (.bipush 70, 2) := dk_16 70 (dk_at dksX0_writes_0 13 rfl rfl)
theorem dX0_writes_15 : decode cX0_writes 15 = .ok (.bipush 116, 2) := dk_16 116 (dk_at dksX0_writes_0 15 rfl rfl)
theorem dX0_writes_17 : decode cX0_writes 17 = .ok (.invokestatic 115, 3) := dk_184 0 115 (dk_at dksX0_writes_0 17 rfl rfl)
theorem dX0_writes_20 : decode cX0_writes 20 = .ok (.aload_n 0, 1) := dk_42 (dk_at dksX0_writes_0 20 rfl rfl)
theorem dX0_writes_21 : decode cX0_writes 21 = .ok (.bipush 69, 2) := dk_16 69 (dk_at dksX0_writes_0 21 rfl rfl)
theorem dX0_writes_23 : decode cX0_writes 23 = .ok (.dup2, 1) := dk_92 (dk_at dksX0_writes_0 23 rfl rfl)
theorem dX0_writes_24 : decode cX0_writes 24 = .ok (.iaload, 1) := dk_46 (dk_at dksX0_writes_1 0 rfl rfl)
theorem dX0_writes_25 : decode cX0_writes 25 = .ok (.iconst 1, 1) := dk_4 (dk_at dksX0_writes_1 1 rfl rfl)
theorem dX0_writes_26 : decode cX0_writes 26 = .ok (.isub, 1) := dk_100 (dk_at dksX0_writes_1 2 rfl rfl)
theorem dX0_writes_27 : decode cX0_writes 27 = .ok (.iastore, 1) := dk_79 (dk_at dksX0_writes_1 3 rfl rfl)
theorem dX0_writes_28 : decode cX0_writes 28 = .ok (.iconst 4, 1) := dk_7 (dk_at dksX0_writes_1 4 rfl rfl)
theorem dX0_writes_29 : decode cX0_writes 29 = .ok (.newarray .int, 2) := dk_188_10 (dk_at dksX0_writes_1 5 rfl rfl)
theorem dX0_writes_31 : decode cX0_writes 31 = .ok (.dup, 1) := dk_89 (dk_at dksX0_writes_1 7 rfl rfl)
theorem dX0_writes_32 : decode cX0_writes 32 = .ok (.iconst 0, 1) := dk_3 (dk_at dksX0_writes_1 8 rfl rfl)
theorem dX0_writes_33 : decode cX0_writes 33 = .ok (.aload_n 0, 1) := dk_42 (dk_at dksX0_writes_1 9 rfl rfl)
theorem dX0_writes_34 : decode cX0_writes 34 = .ok (.iconst 0, 1) := dk_3 (dk_at dksX0_writes_1 10 rfl rfl)
theorem dX0_writes_35 : decode cX0_writes 35 = .ok (.iaload, 1) := dk_46 (dk_at dksX0_writes_1 11 rfl rfl)
theorem dX0_writes_36 : decode cX0_writes 36 = .ok (.iastore, 1) := dk_79 (dk_at dksX0_writes_1 12 rfl rfl)
theorem dX0_writes_37 : decode cX0_writes 37 = .ok (.dup, 1) := dk_89 (dk_at dksX0_writes_1 13 rfl rfl)
theorem dX0_writes_38 : decode cX0_writes 38 = .ok (.iconst 1, 1) := dk_4 (dk_at dksX0_writes_1 14 rfl rfl)
theorem dX0_writes_39 : decode cX0_writes 39 = .ok (.iload_n 1, 1) := dk_27 (dk_at dksX0_writes_1 15 rfl rfl)
theorem dX0_writes_40 : decode cX0_writes 40 = .ok (.iastore, 1) := dk_79 (dk_at dksX0_writes_1 16 rfl rfl)
theorem dX0_writes_41 : decode cX0_writes 41 = .ok (.dup, 1) := dk_89 (dk_at dksX0_writes_1 17 rfl rfl)
theorem dX0_writes_42 : decode cX0_writes 42 = .ok (.iconst 2, 1) := dk_5 (dk_at dksX0_writes_1 18 rfl rfl)
theorem dX0_writes_43 : decode cX0_writes 43 = .ok (.iload_n 2, 1) := dk_28 (dk_at dksX0_writes_1 19 rfl rfl)
theorem dX0_writes_44 : decode cX0_writes 44 = .ok (.iastore, 1) := dk_79 (dk_at dksX0_writes_1 20 rfl rfl)
theorem dX0_writes_45 : decode cX0_writes 45 = .ok (.dup, 1) := dk_89 (dk_at dksX0_writes_1 21 rfl rfl)
theorem dX0_writes_46 : decode cX0_writes 46 = .ok (.iconst 3, 1) := dk_6 (dk_at dksX0_writes_1 22 rfl rfl)
theorem dX0_writes_47 : decode cX0_writes 47 = .ok (.iload_n 3, 1) := dk_29 (dk_at dksX0_writes_1 23 rfl rfl)
theorem dX0_writes_48 : decode cX0_writes 48 = .ok (.iastore, 1) := dk_79 (dk_at dksX0_writes_2 0 rfl rfl)
theorem dX0_writes_49 : decode cX0_writes 49 = .ok (.astore 4, 2) := dk_58 4 (dk_at dksX0_writes_2 1 rfl rfl)
theorem dX0_writes_51 : decode cX0_writes 51 = .ok (.aload 4, 2) := dk_25 4 (dk_at dksX0_writes_2 3 rfl rfl)
theorem dX0_writes_53 : decode cX0_writes 53 = .ok (.iconst 0, 1) := dk_3 (dk_at dksX0_writes_2 5 rfl rfl)
theorem dX0_writes_54 : decode cX0_writes 54 = .ok (.aload_n 0, 1) := dk_42 (dk_at dksX0_writes_2 6 rfl rfl)
theorem dX0_writes_55 : decode cX0_writes 55 = .ok (.bipush 70, 2) := dk_16 70 (dk_at dksX0_writes_2 7 rfl rfl)
theorem dX0_writes_57 : decode cX0_writes 57 = .ok (.iconst 4, 1) := dk_7 (dk_at dksX0_writes_2 9 rfl rfl)
theorem dX0_writes_58 : decode cX0_writes 58 = .ok (.aload_n 0, 1) := dk_42 (dk_at dksX0_writes_2 10 rfl rfl)
theorem dX0_writes_59 : decode cX0_writes 59 = .ok (.bipush 69, 2) := dk_16 69 (dk_at dksX0_writes_2 11 rfl rfl)
theorem dX0_writes_61 : decode cX0_writes 61 = .ok (.iaload, 1) := dk_46 (dk_at dksX0_writes_2 13 rfl rfl)
theorem dX0_writes_62 : decode cX0_writes 62 = .ok (.imul, 1) := dk_104 (dk_at dksX0_writes_2 14 rfl rfl)
theorem dX0_writes_63 : decode cX0_writes 63 = .ok (.iadd, 1) := dk_96 (dk_at dksX0_writes_2 15 rfl rfl)
theorem dX0_writes_64 : decode cX0_writes 64 = .ok (.iconst 4, 1) := dk_7 (dk_at dksX0_writes_2 16 rfl rfl)
theorem dX0_writes_65 : decode cX0_writes 65 = .ok (.invokestatic 115, 3) := dk_184 0 115 (dk_at dksX0_writes_2 17 rfl rfl)
theorem dX0_writes_68 : decode cX0_writes 68 = .ok (.aload_n 0, 1) := dk_42 (dk_at dksX0_writes_2 20 rfl rfl)
theorem dX0_writes_69 : decode cX0_writes 69 = .ok (.bipush 69, 2) := dk_16 69 (dk_at dksX0_writes_2 21 rfl rfl)
theorem dX0_writes_71 : decode cX0_writes 71 = .ok (.dup2, 1) := dk_92 (dk_at dksX0_writes_2 23 rfl rfl)
theorem dX0_writes_72 : decode cX0_writes 72 = .ok (.iaload, 1) := dk_46 (dk_at dksX0_writes_3 0 rfl rfl)
theorem dX0_writes_73 : decode cX0_writes 73 = .ok (.iconst 1, 1) := dk_4 (dk_at dksX0_writes_3 1 rfl rfl)
theorem dX0_writes_74 : decode cX0_writes 74 = .ok (.iadd, 1) := dk_96 (dk_at dksX0_writes_3 2 rfl rfl)
theorem dX0_writes_75 : decode cX0_writes 75 = .ok (.iastore, 1) := dk_79 (dk_at dksX0_writes_3 3 rfl rfl)
theorem dX0_writes_76 : decode cX0_writes 76 = .ok (.return_, 1) := dk_177 (dk_at dksX0_writes_3 4 rfl rfl)
abbrev cX0_cut : ByteArray := prog_1_method_31_code
def yX0_cut : MethodName := ⟨RX0, "cut", "(I)Z"⟩
def dkwX0_cut_1 : List UInt8 := [172]
abbrev dktX0_cut_1 : List UInt8 := dkwX0_cut_1 ++ []
def dkwX0_cut_0 : List UInt8 := [42, 27, 4, 182, 0, 176, 154, 0, 5, 3, 172, 42, 180, 0, 21, 182, 0, 165, 42, 27, 182, 0, 180, 4]
abbrev dktX0_cut_0 : List UInt8 := dkwX0_cut_0 ++ dktX0_cut_1
theorem dksX0_cut_0 : cX0_cut.data.toList.drop 0 = dktX0_cut_0 := by decide +kernel
theorem dksX0_cut_1 : cX0_cut.data.toList.drop 24 = dktX0_cut_1 := dk_seg dksX0_cut_0 24 rfl rfl
theorem dX0_cut_0 : decode cX0_cut 0 = .ok (.aload_n 0, 1) := dk_42 (dk_at dksX0_cut_0 0 rfl rfl)
theorem dX0_cut_1 : decode cX0_cut 1 = .ok (.iload_n 1, 1) := dk_27 (dk_at dksX0_cut_0 1 rfl rfl)
theorem dX0_cut_2 : decode cX0_cut 2 = .ok (.iconst 1, 1) := dk_4 (dk_at dksX0_cut_0 2 rfl rfl)
theorem dX0_cut_3 : decode cX0_cut 3 = .ok (.invokevirtual 176, 3) := dk_182 0 176 (dk_at dksX0_cut_0 3 rfl rfl)
theorem dX0_cut_6 : decode cX0_cut 6 = .ok (.ifCond .ne 5, 3) := dk_154 0 5 (dk_at dksX0_cut_0 6 rfl rfl)
theorem dX0_cut_9 : decode cX0_cut 9 = .ok (.iconst 0, 1) := dk_3 (dk_at dksX0_cut_0 9 rfl rfl)
theorem dX0_cut_10 : decode cX0_cut 10 = .ok (.ireturn, 1) := dk_172 (dk_at dksX0_cut_0 10 rfl rfl)
theorem dX0_cut_11 : decode cX0_cut 11 = .ok (.aload_n 0, 1) := dk_42 (dk_at dksX0_cut_0 11 rfl rfl)
theorem dX0_cut_12 : decode cX0_cut 12 = .ok (.getfield 21, 3) := dk_180 0 21 (dk_at dksX0_cut_0 12 rfl rfl)
theorem dX0_cut_15 : decode cX0_cut 15 = .ok (.invokevirtual 165, 3) := dk_182 0 165 (dk_at dksX0_cut_0 15 rfl rfl)
theorem dX0_cut_18 : decode cX0_cut 18 = .ok (.aload_n 0, 1) := dk_42 (dk_at dksX0_cut_0 18 rfl rfl)
theorem dX0_cut_19 : decode cX0_cut 19 = .ok (.iload_n 1, 1) := dk_27 (dk_at dksX0_cut_0 19 rfl rfl)
theorem dX0_cut_20 : decode cX0_cut 20 = .ok (.invokevirtual 180, 3) := dk_182 0 180 (dk_at dksX0_cut_0 20 rfl rfl)
theorem dX0_cut_23 : decode cX0_cut 23 = .ok (.iconst 1, 1) := dk_4 (dk_at dksX0_cut_0 23 rfl rfl)
theorem dX0_cut_24 : decode cX0_cut 24 = .ok (.ireturn, 1) := dk_172 (dk_at dksX0_cut_1 0 rfl rfl)
abbrev cX0_isKind : ByteArray := prog_1_method_28_code
def yX0_isKind : MethodName := ⟨RX0, "isKind", "(II)Z"⟩
def dkwX0_isKind_0 : List UInt8 := [27, 184, 0, 68, 153, 0, 16, 42, 27, 182, 0, 172, 28, 160, 0, 7, 4, 167, 0, 4, 3, 172]
abbrev dktX0_isKind_0 : List UInt8 := dkwX0_isKind_0 ++ []
theorem dksX0_isKind_0 : cX0_isKind.data.toList.drop 0 = dktX0_isKind_0 := by decide +kernel
theorem dX0_isKind_0 : decode cX0_isKind 0 = .ok (.iload_n 1, 1) := dk_27 (dk_at dksX0_isKind_0 0 rfl rfl)
theorem dX0_isKind_1 : decode cX0_isKind 1 = .ok (.invokestatic 68, 3) := dk_184 0 68 (dk_at dksX0_isKind_0 1 rfl rfl)
theorem dX0_isKind_4 : decode cX0_isKind 4 = .ok (.ifCond .eq 16, 3) := dk_153 0 16 (dk_at dksX0_isKind_0 4 rfl rfl)
theorem dX0_isKind_7 : decode cX0_isKind 7 = .ok (.aload_n 0, 1) := dk_42 (dk_at dksX0_isKind_0 7 rfl rfl)
theorem dX0_isKind_8 : decode cX0_isKind 8 = .ok (.iload_n 1, 1) := dk_27 (dk_at dksX0_isKind_0 8 rfl rfl)
theorem dX0_isKind_9 : decode cX0_isKind 9 = .ok (.invokevirtual 172, 3) := dk_182 0 172 (dk_at dksX0_isKind_0 9 rfl rfl)
theorem dX0_isKind_12 : decode cX0_isKind 12 = .ok (.iload_n 2, 1) := dk_28 (dk_at dksX0_isKind_0 12 rfl rfl)
theorem dX0_isKind_13 : decode cX0_isKind 13 = .ok (.if_icmp .ne 7, 3) := dk_160 0 7 (dk_at dksX0_isKind_0 13 rfl rfl)
theorem dX0_isKind_16 : decode cX0_isKind 16 = .ok (.iconst 1, 1) := dk_4 (dk_at dksX0_isKind_0 16 rfl rfl)
theorem dX0_isKind_17 : decode cX0_isKind 17 = .ok (.goto 4, 3) := dk_167 0 4 (dk_at dksX0_isKind_0 17 rfl rfl)
theorem dX0_isKind_20 : decode cX0_isKind 20 = .ok (.iconst 0, 1) := dk_3 (dk_at dksX0_isKind_0 20 rfl rfl)
theorem dX0_isKind_21 : decode cX0_isKind 21 = .ok (.ireturn, 1) := dk_172 (dk_at dksX0_isKind_0 21 rfl rfl)
abbrev cX0_kindAt : ByteArray := prog_1_method_7_code
def yX0_kindAt : MethodName := ⟨RX0, "kindAt", "(I)I"⟩
def dkwX0_kindAt_0 : List UInt8 := [42, 180, 0, 21, 180, 0, 65, 5, 27, 96, 46, 172]
abbrev dktX0_kindAt_0 : List UInt8 := dkwX0_kindAt_0 ++ []
theorem dksX0_kindAt_0 : cX0_kindAt.data.toList.drop 0 = dktX0_kindAt_0 := by decide +kernel
theorem dX0_kindAt_0 : decode cX0_kindAt 0 = .ok (.aload_n 0, 1) := dk_42 (dk_at dksX0_kindAt_0 0 rfl rfl)
theorem dX0_kindAt_1 : decode cX0_kindAt 1 = .ok (.getfield 21, 3) := dk_180 0 21 (dk_at dksX0_kindAt_0 1 rfl rfl)
theorem dX0_kindAt_4 : decode cX0_kindAt 4 = .ok (.getfield 65, 3) := dk_180 0 65 (dk_at dksX0_kindAt_0 4 rfl rfl)
theorem dX0_kindAt_7 : decode cX0_kindAt 7 = .ok (.iconst 2, 1) := dk_5 (dk_at dksX0_kindAt_0 7 rfl rfl)
theorem dX0_kindAt_8 : decode cX0_kindAt 8 = .ok (.iload_n 1, 1) := dk_27 (dk_at dksX0_kindAt_0 8 rfl rfl)
theorem dX0_kindAt_9 : decode cX0_kindAt 9 = .ok (.iadd, 1) := dk_96 (dk_at dksX0_kindAt_0 9 rfl rfl)
theorem dX0_kindAt_10 : decode cX0_kindAt 10 = .ok (.iaload, 1) := dk_46 (dk_at dksX0_kindAt_0 10 rfl rfl)
theorem dX0_kindAt_11 : decode cX0_kindAt 11 = .ok (.ireturn, 1) := dk_172 (dk_at dksX0_kindAt_0 11 rfl rfl)
abbrev cX0_cuts : ByteArray := prog_1_method_29_code
def yX0_cuts : MethodName := ⟨RX0, "cuts", "(I)V"⟩
def dkwX0_cuts_0 : List UInt8 := [42, 180, 0, 21, 180, 0, 65, 5, 27, 96, 3, 79, 177]
abbrev dktX0_cuts_0 : List UInt8 := dkwX0_cuts_0 ++ []
theorem dksX0_cuts_0 : cX0_cuts.data.toList.drop 0 = dktX0_cuts_0 := by decide +kernel
theorem dX0_cuts_0 : decode cX0_cuts 0 = .ok (.aload_n 0, 1) := dk_42 (dk_at dksX0_cuts_0 0 rfl rfl)
theorem dX0_cuts_1 : decode cX0_cuts 1 = .ok (.getfield 21, 3) := dk_180 0 21 (dk_at dksX0_cuts_0 1 rfl rfl)
theorem dX0_cuts_4 : decode cX0_cuts 4 = .ok (.getfield 65, 3) := dk_180 0 65 (dk_at dksX0_cuts_0 4 rfl rfl)
theorem dX0_cuts_7 : decode cX0_cuts 7 = .ok (.iconst 2, 1) := dk_5 (dk_at dksX0_cuts_0 7 rfl rfl)
theorem dX0_cuts_8 : decode cX0_cuts 8 = .ok (.iload_n 1, 1) := dk_27 (dk_at dksX0_cuts_0 8 rfl rfl)
theorem dX0_cuts_9 : decode cX0_cuts 9 = .ok (.iadd, 1) := dk_96 (dk_at dksX0_cuts_0 9 rfl rfl)
theorem dX0_cuts_10 : decode cX0_cuts 10 = .ok (.iconst 0, 1) := dk_3 (dk_at dksX0_cuts_0 10 rfl rfl)
theorem dX0_cuts_11 : decode cX0_cuts 11 = .ok (.iastore, 1) := dk_79 (dk_at dksX0_cuts_0 11 rfl rfl)
theorem dX0_cuts_12 : decode cX0_cuts 12 = .ok (.return_, 1) := dk_177 (dk_at dksX0_cuts_0 12 rfl rfl)
abbrev cX0_add : ByteArray := prog_1_method_32_code
def yX0_add : MethodName := ⟨RX0, "add", "(I)Z"⟩
def dkwX0_add_1 : List UInt8 := [172]
abbrev dktX0_add_1 : List UInt8 := dkwX0_add_1 ++ []
def dkwX0_add_0 : List UInt8 := [42, 27, 3, 182, 0, 176, 154, 0, 5, 3, 172, 42, 180, 0, 21, 182, 0, 165, 42, 27, 182, 0, 183, 4]
abbrev dktX0_add_0 : List UInt8 := dkwX0_add_0 ++ dktX0_add_1
theorem dksX0_add_0 : cX0_add.data.toList.drop 0 = dktX0_add_0 := by decide +kernel
theorem dksX0_add_1 : cX0_add.data.toList.drop 24 = dktX0_add_1 := dk_seg dksX0_add_0 24 rfl rfl
theorem dX0_add_0 : decode cX0_add 0 = .ok (.aload_n 0, 1) := dk_42 (dk_at dksX0_add_0 0 rfl rfl)
theorem dX0_add_1 : decode cX0_add 1 = .ok (.iload_n 1, 1) := dk_27 (dk_at dksX0_add_0 1 rfl rfl)
theorem dX0_add_2 : decode cX0_add 2 = .ok (.iconst 0, 1) := dk_3 (dk_at dksX0_add_0 2 rfl rfl)
theorem dX0_add_3 : decode cX0_add 3 = .ok (.invokevirtual 176, 3) := dk_182 0 176 (dk_at dksX0_add_0 3 rfl rfl)
theorem dX0_add_6 : decode cX0_add 6 = .ok (.ifCond .ne 5, 3) := dk_154 0 5 (dk_at dksX0_add_0 6 rfl rfl)
theorem dX0_add_9 : decode cX0_add 9 = .ok (.iconst 0, 1) := dk_3 (dk_at dksX0_add_0 9 rfl rfl)
theorem dX0_add_10 : decode cX0_add 10 = .ok (.ireturn, 1) := dk_172 (dk_at dksX0_add_0 10 rfl rfl)
theorem dX0_add_11 : decode cX0_add 11 = .ok (.aload_n 0, 1) := dk_42 (dk_at dksX0_add_0 11 rfl rfl)
theorem dX0_add_12 : decode cX0_add 12 = .ok (.getfield 21, 3) := dk_180 0 21 (dk_at dksX0_add_0 12 rfl rfl)
theorem dX0_add_15 : decode cX0_add 15 = .ok (.invokevirtual 165, 3) := dk_182 0 165 (dk_at dksX0_add_0 15 rfl rfl)
theorem dX0_add_18 : decode cX0_add 18 = .ok (.aload_n 0, 1) := dk_42 (dk_at dksX0_add_0 18 rfl rfl)
theorem dX0_add_19 : decode cX0_add 19 = .ok (.iload_n 1, 1) := dk_27 (dk_at dksX0_add_0 19 rfl rfl)
theorem dX0_add_20 : decode cX0_add 20 = .ok (.invokevirtual 183, 3) := dk_182 0 183 (dk_at dksX0_add_0 20 rfl rfl)
theorem dX0_add_23 : decode cX0_add 23 = .ok (.iconst 1, 1) := dk_4 (dk_at dksX0_add_0 23 rfl rfl)
theorem dX0_add_24 : decode cX0_add 24 = .ok (.ireturn, 1) := dk_172 (dk_at dksX0_add_1 0 rfl rfl)
abbrev cX0_adds : ByteArray := prog_1_method_30_code
def yX0_adds : MethodName := ⟨RX0, "adds", "(I)V"⟩
def dkwX0_adds_1 : List UInt8 := [79, 177]
abbrev dktX0_adds_1 : List UInt8 := dkwX0_adds_1 ++ []
def dkwX0_adds_0 : List UInt8 := [42, 180, 0, 21, 180, 0, 65, 5, 27, 96, 4, 79, 42, 180, 0, 21, 180, 0, 65, 16, 32, 27, 96, 3]
abbrev dktX0_adds_0 : List UInt8 := dkwX0_adds_0 ++ dktX0_adds_1
theorem dksX0_adds_0 : cX0_adds.data.toList.drop 0 = dktX0_adds_0 := by decide +kernel
theorem dksX0_adds_1 : cX0_adds.data.toList.drop 24 = dktX0_adds_1 := dk_seg dksX0_adds_0 24 rfl rfl
theorem dX0_adds_0 : decode cX0_adds 0 = .ok (.aload_n 0, 1) := dk_42 (dk_at dksX0_adds_0 0 rfl rfl)
theorem dX0_adds_1 : decode cX0_adds 1 = .ok (.getfield 21, 3) := dk_180 0 21 (dk_at dksX0_adds_0 1 rfl rfl)
theorem dX0_adds_4 : decode cX0_adds 4 = .ok (.getfield 65, 3) := dk_180 0 65 (dk_at dksX0_adds_0 4 rfl rfl)
theorem dX0_adds_7 : decode cX0_adds 7 = .ok (.iconst 2, 1) := dk_5 (dk_at dksX0_adds_0 7 rfl rfl)
theorem dX0_adds_8 : decode cX0_adds 8 = .ok (.iload_n 1, 1) := dk_27 (dk_at dksX0_adds_0 8 rfl rfl)
theorem dX0_adds_9 : decode cX0_adds 9 = .ok (.iadd, 1) := dk_96 (dk_at dksX0_adds_0 9 rfl rfl)
theorem dX0_adds_10 : decode cX0_adds 10 = .ok (.iconst 1, 1) := dk_4 (dk_at dksX0_adds_0 10 rfl rfl)
theorem dX0_adds_11 : decode cX0_adds 11 = .ok (.iastore, 1) := dk_79 (dk_at dksX0_adds_0 11 rfl rfl)
theorem dX0_adds_12 : decode cX0_adds 12 = .ok (.aload_n 0, 1) := dk_42 (dk_at dksX0_adds_0 12 rfl rfl)
theorem dX0_adds_13 : decode cX0_adds 13 = .ok (.getfield 21, 3) := dk_180 0 21 (dk_at dksX0_adds_0 13 rfl rfl)
theorem dX0_adds_16 : decode cX0_adds 16 = .ok (.getfield 65, 3) := dk_180 0 65 (dk_at dksX0_adds_0 16 rfl rfl)
theorem dX0_adds_19 : decode cX0_adds 19 = .ok (.bipush 32, 2) := dk_16 32 (dk_at dksX0_adds_0 19 rfl rfl)
theorem dX0_adds_21 : decode cX0_adds 21 = .ok (.iload_n 1, 1) := dk_27 (dk_at dksX0_adds_0 21 rfl rfl)
theorem dX0_adds_22 : decode cX0_adds 22 = .ok (.iadd, 1) := dk_96 (dk_at dksX0_adds_0 22 rfl rfl)
theorem dX0_adds_23 : decode cX0_adds 23 = .ok (.iconst 0, 1) := dk_3 (dk_at dksX0_adds_0 23 rfl rfl)
theorem dX0_adds_24 : decode cX0_adds 24 = .ok (.iastore, 1) := dk_79 (dk_at dksX0_adds_1 0 rfl rfl)
theorem dX0_adds_25 : decode cX0_adds 25 = .ok (.return_, 1) := dk_177 (dk_at dksX0_adds_1 1 rfl rfl)
abbrev cX0_year : ByteArray := prog_1_method_35_code
def yX0_year : MethodName := ⟨RX0, "year", "(I)I"⟩
def dkwX0_year_2 : List UInt8 := [180, 0, 21, 180, 0, 65, 182, 0, 196, 96, 61, 132, 3, 1, 167, 255, 227, 28, 172]
abbrev dktX0_year_2 : List UInt8 := dkwX0_year_2 ++ []
def dkwX0_year_1 : List UInt8 := [164, 0, 5, 2, 172, 3, 61, 3, 62, 29, 27, 162, 0, 30, 42, 180, 0, 21, 182, 0, 165, 28, 42, 42]
abbrev dktX0_year_1 : List UInt8 := dkwX0_year_1 ++ dktX0_year_2
def dkwX0_year_0 : List UInt8 := [27, 4, 16, 60, 184, 0, 58, 153, 0, 20, 42, 180, 0, 21, 180, 0, 65, 3, 46, 27, 96, 17, 39, 15]
abbrev dktX0_year_0 : List UInt8 := dkwX0_year_0 ++ dktX0_year_1
theorem dksX0_year_0 : cX0_year.data.toList.drop 0 = dktX0_year_0 := by decide +kernel
theorem dksX0_year_1 : cX0_year.data.toList.drop 24 = dktX0_year_1 := dk_seg dksX0_year_0 24 rfl rfl
theorem dksX0_year_2 : cX0_year.data.toList.drop 48 = dktX0_year_2 := dk_seg dksX0_year_1 24 rfl rfl
theorem dX0_year_0 : decode cX0_year 0 = .ok (.iload_n 1, 1) := dk_27 (dk_at dksX0_year_0 0 rfl rfl)
theorem dX0_year_1 : decode cX0_year 1 = .ok (.iconst 1, 1) := dk_4 (dk_at dksX0_year_0 1 rfl rfl)
theorem dX0_year_2 : decode cX0_year 2 = .ok (.bipush 60, 2) := dk_16 60 (dk_at dksX0_year_0 2 rfl rfl)
theorem dX0_year_4 : decode cX0_year 4 = .ok (.invokestatic 58, 3) := dk_184 0 58 (dk_at dksX0_year_0 4 rfl rfl)
theorem dX0_year_7 : decode cX0_year 7 = .ok (.ifCond .eq 20, 3) := dk_153 0 20 (dk_at dksX0_year_0 7 rfl rfl)
theorem dX0_year_10 : decode cX0_year 10 = .ok (.aload_n 0, 1) := dk_42 (dk_at dksX0_year_0 10 rfl rfl)
theorem dX0_year_11 : decode cX0_year 11 = .ok (.getfield 21, 3) := dk_180 0 21 (dk_at dksX0_year_0 11 rfl rfl)
theorem dX0_year_14 : decode cX0_year 14 = .ok (.getfield 65, 3) := dk_180 0 65 (dk_at dksX0_year_0 14 rfl rfl)
theorem dX0_year_17 : decode cX0_year 17 = .ok (.iconst 0, 1) := dk_3 (dk_at dksX0_year_0 17 rfl rfl)
theorem dX0_year_18 : decode cX0_year 18 = .ok (.iaload, 1) := dk_46 (dk_at dksX0_year_0 18 rfl rfl)
theorem dX0_year_19 : decode cX0_year 19 = .ok (.iload_n 1, 1) := dk_27 (dk_at dksX0_year_0 19 rfl rfl)
theorem dX0_year_20 : decode cX0_year 20 = .ok (.iadd, 1) := dk_96 (dk_at dksX0_year_0 20 rfl rfl)
theorem dX0_year_21 : decode cX0_year 21 = .ok (.sipush 9999, 3) := dk_17 39 15 (dk_at dksX0_year_0 21 rfl rfl)
theorem dX0_year_24 : decode cX0_year 24 = .ok (.if_icmp .le 5, 3) := dk_164 0 5 (dk_at dksX0_year_1 0 rfl rfl)
theorem dX0_year_27 : decode cX0_year 27 = .ok (.iconst (-1), 1) := dk_2 (dk_at dksX0_year_1 3 rfl rfl)
theorem dX0_year_28 : decode cX0_year 28 = .ok (.ireturn, 1) := dk_172 (dk_at dksX0_year_1 4 rfl rfl)
theorem dX0_year_29 : decode cX0_year 29 = .ok (.iconst 0, 1) := dk_3 (dk_at dksX0_year_1 5 rfl rfl)
theorem dX0_year_30 : decode cX0_year 30 = .ok (.istore_n 2, 1) := dk_61 (dk_at dksX0_year_1 6 rfl rfl)
theorem dX0_year_31 : decode cX0_year 31 = .ok (.iconst 0, 1) := dk_3 (dk_at dksX0_year_1 7 rfl rfl)
theorem dX0_year_32 : decode cX0_year 32 = .ok (.istore_n 3, 1) := dk_62 (dk_at dksX0_year_1 8 rfl rfl)
theorem dX0_year_33 : decode cX0_year 33 = .ok (.iload_n 3, 1) := dk_29 (dk_at dksX0_year_1 9 rfl rfl)
theorem dX0_year_34 : decode cX0_year 34 = .ok (.iload_n 1, 1) := dk_27 (dk_at dksX0_year_1 10 rfl rfl)
theorem dX0_year_35 : decode cX0_year 35 = .ok (.if_icmp .ge 30, 3) := dk_162 0 30 (dk_at dksX0_year_1 11 rfl rfl)
theorem dX0_year_38 : decode cX0_year 38 = .ok (.aload_n 0, 1) := dk_42 (dk_at dksX0_year_1 14 rfl rfl)
theorem dX0_year_39 : decode cX0_year 39 = .ok (.getfield 21, 3) := dk_180 0 21 (dk_at dksX0_year_1 15 rfl rfl)
theorem dX0_year_42 : decode cX0_year 42 = .ok (.invokevirtual 165, 3) := dk_182 0 165 (dk_at dksX0_year_1 18 rfl rfl)
theorem dX0_year_45 : decode cX0_year 45 = .ok (.iload_n 2, 1) := dk_28 (dk_at dksX0_year_1 21 rfl rfl)
theorem dX0_year_46 : decode cX0_year 46 = .ok (.aload_n 0, 1) := dk_42 (dk_at dksX0_year_1 22 rfl rfl)
theorem dX0_year_47 : decode cX0_year 47 = .ok (.aload_n 0, 1) := dk_42 (dk_at dksX0_year_1 23 rfl rfl)
theorem dX0_year_48 : decode cX0_year 48 = .ok (.getfield 21, 3) := dk_180 0 21 (dk_at dksX0_year_2 0 rfl rfl)
theorem dX0_year_51 : decode cX0_year 51 = .ok (.getfield 65, 3) := dk_180 0 65 (dk_at dksX0_year_2 3 rfl rfl)
theorem dX0_year_54 : decode cX0_year 54 = .ok (.invokevirtual 196, 3) := dk_182 0 196 (dk_at dksX0_year_2 6 rfl rfl)
theorem dX0_year_57 : decode cX0_year 57 = .ok (.iadd, 1) := dk_96 (dk_at dksX0_year_2 9 rfl rfl)
theorem dX0_year_58 : decode cX0_year 58 = .ok (.istore_n 2, 1) := dk_61 (dk_at dksX0_year_2 10 rfl rfl)
theorem dX0_year_59 : decode cX0_year 59 = .ok (.iinc 3 1, 3) := dk_132 3 1 (dk_at dksX0_year_2 11 rfl rfl)
theorem dX0_year_62 : decode cX0_year 62 = .ok (.goto (-29), 3) := dk_167 255 227 (dk_at dksX0_year_2 14 rfl rfl)
theorem dX0_year_65 : decode cX0_year 65 = .ok (.iload_n 2, 1) := dk_28 (dk_at dksX0_year_2 17 rfl rfl)
theorem dX0_year_66 : decode cX0_year 66 = .ok (.ireturn, 1) := dk_172 (dk_at dksX0_year_2 18 rfl rfl)
abbrev cX0_passes : ByteArray := prog_1_method_34_code
def yX0_passes : MethodName := ⟨RX0, "passes", "([I)I"⟩
def dkwX0_passes_2 : List UInt8 := [132, 3, 1, 167, 255, 210, 42, 43, 182, 0, 192, 43, 3, 92, 46, 4, 96, 79, 28, 172]
abbrev dktX0_passes_2 : List UInt8 := dkwX0_passes_2 ++ []
def dkwX0_passes_1 : List UInt8 := [159, 0, 6, 167, 0, 20, 42, 43, 29, 43, 16, 30, 184, 0, 147, 182, 0, 168, 54, 4, 132, 2, 1]
abbrev dktX0_passes_1 : List UInt8 := dkwX0_passes_1 ++ dktX0_passes_2
def dkwX0_passes_0 : List UInt8 := [3, 61, 3, 62, 29, 42, 180, 0, 21, 180, 0, 62, 3, 46, 162, 0, 39, 43, 16, 62, 29, 96, 46, 2]
abbrev dktX0_passes_0 : List UInt8 := dkwX0_passes_0 ++ dktX0_passes_1
theorem dksX0_passes_0 : cX0_passes.data.toList.drop 0 = dktX0_passes_0 := by decide +kernel
theorem dksX0_passes_1 : cX0_passes.data.toList.drop 24 = dktX0_passes_1 := dk_seg dksX0_passes_0 24 rfl rfl
theorem dksX0_passes_2 : cX0_passes.data.toList.drop 47 = dktX0_passes_2 := dk_seg dksX0_passes_1 23 rfl rfl
theorem dX0_passes_0 : decode cX0_passes 0 = .ok (.iconst 0, 1) := dk_3 (dk_at dksX0_passes_0 0 rfl rfl)
theorem dX0_passes_1 : decode cX0_passes 1 = .ok (.istore_n 2, 1) := dk_61 (dk_at dksX0_passes_0 1 rfl rfl)
theorem dX0_passes_2 : decode cX0_passes 2 = .ok (.iconst 0, 1) := dk_3 (dk_at dksX0_passes_0 2 rfl rfl)
theorem dX0_passes_3 : decode cX0_passes 3 = .ok (.istore_n 3, 1) := dk_62 (dk_at dksX0_passes_0 3 rfl rfl)
theorem dX0_passes_4 : decode cX0_passes 4 = .ok (.iload_n 3, 1) := dk_29 (dk_at dksX0_passes_0 4 rfl rfl)
theorem dX0_passes_5 : decode cX0_passes 5 = .ok (.aload_n 0, 1) := dk_42 (dk_at dksX0_passes_0 5 rfl rfl)
theorem dX0_passes_6 : decode cX0_passes 6 = .ok (.getfield 21, 3) := dk_180 0 21 (dk_at dksX0_passes_0 6 rfl rfl)
theorem dX0_passes_9 : decode cX0_passes 9 = .ok (.getfield 62, 3) := dk_180 0 62 (dk_at dksX0_passes_0 9 rfl rfl)
theorem dX0_passes_12 : decode cX0_passes 12 = .ok (.iconst 0, 1) := dk_3 (dk_at dksX0_passes_0 12 rfl rfl)
theorem dX0_passes_13 : decode cX0_passes 13 = .ok (.iaload, 1) := dk_46 (dk_at dksX0_passes_0 13 rfl rfl)
theorem dX0_passes_14 : decode cX0_passes 14 = .ok (.if_icmp .ge 39, 3) := dk_162 0 39 (dk_at dksX0_passes_0 14 rfl rfl)
theorem dX0_passes_17 : decode cX0_passes 17 = .ok (.aload_n 1, 1) := dk_43 (dk_at dksX0_passes_0 17 rfl rfl)
theorem dX0_passes_18 : decode cX0_passes 18 = .ok (.bipush 62, 2) := dk_16 62 (dk_at dksX0_passes_0 18 rfl rfl)
theorem dX0_passes_20 : decode cX0_passes 20 = .ok (.iload_n 3, 1) := dk_29 (dk_at dksX0_passes_0 20 rfl rfl)
theorem dX0_passes_21 : decode cX0_passes 21 = .ok (.iadd, 1) := dk_96 (dk_at dksX0_passes_0 21 rfl rfl)
theorem dX0_passes_22 : decode cX0_passes 22 = .ok (.iaload, 1) := dk_46 (dk_at dksX0_passes_0 22 rfl rfl)
theorem dX0_passes_23 : decode cX0_passes 23 = .ok (.iconst (-1), 1) := dk_2 (dk_at dksX0_passes_0 23 rfl rfl)
theorem dX0_passes_24 : decode cX0_passes 24 = .ok (.if_icmp .eq 6, 3) := dk_159 0 6 (dk_at dksX0_passes_1 0 rfl rfl)
theorem dX0_passes_27 : decode cX0_passes 27 = .ok (.goto 20, 3) := dk_167 0 20 (dk_at dksX0_passes_1 3 rfl rfl)
theorem dX0_passes_30 : decode cX0_passes 30 = .ok (.aload_n 0, 1) := dk_42 (dk_at dksX0_passes_1 6 rfl rfl)
theorem dX0_passes_31 : decode cX0_passes 31 = .ok (.aload_n 1, 1) := dk_43 (dk_at dksX0_passes_1 7 rfl rfl)
theorem dX0_passes_32 : decode cX0_passes 32 = .ok (.iload_n 3, 1) := dk_29 (dk_at dksX0_passes_1 8 rfl rfl)
theorem dX0_passes_33 : decode cX0_passes 33 = .ok (.aload_n 1, 1) := dk_43 (dk_at dksX0_passes_1 9 rfl rfl)
theorem dX0_passes_34 : decode cX0_passes 34 = .ok (.bipush 30, 2) := dk_16 30 (dk_at dksX0_passes_1 10 rfl rfl)
theorem dX0_passes_36 : decode cX0_passes 36 = .ok (.invokestatic 147, 3) := dk_184 0 147 (dk_at dksX0_passes_1 12 rfl rfl)
theorem dX0_passes_39 : decode cX0_passes 39 = .ok (.invokevirtual 168, 3) := dk_182 0 168 (dk_at dksX0_passes_1 15 rfl rfl)
theorem dX0_passes_42 : decode cX0_passes 42 = .ok (.istore 4, 2) := dk_54 4 (dk_at dksX0_passes_1 18 rfl rfl)
theorem dX0_passes_44 : decode cX0_passes 44 = .ok (.iinc 2 1, 3) := dk_132 2 1 (dk_at dksX0_passes_1 20 rfl rfl)
theorem dX0_passes_47 : decode cX0_passes 47 = .ok (.iinc 3 1, 3) := dk_132 3 1 (dk_at dksX0_passes_2 0 rfl rfl)
theorem dX0_passes_50 : decode cX0_passes 50 = .ok (.goto (-46), 3) := dk_167 255 210 (dk_at dksX0_passes_2 3 rfl rfl)
theorem dX0_passes_53 : decode cX0_passes 53 = .ok (.aload_n 0, 1) := dk_42 (dk_at dksX0_passes_2 6 rfl rfl)
theorem dX0_passes_54 : decode cX0_passes 54 = .ok (.aload_n 1, 1) := dk_43 (dk_at dksX0_passes_2 7 rfl rfl)
theorem dX0_passes_55 : decode cX0_passes 55 = .ok (.invokevirtual 192, 3) := dk_182 0 192 (dk_at dksX0_passes_2 8 rfl rfl)
theorem dX0_passes_58 : decode cX0_passes 58 = .ok (.aload_n 1, 1) := dk_43 (dk_at dksX0_passes_2 11 rfl rfl)
theorem dX0_passes_59 : decode cX0_passes 59 = .ok (.iconst 0, 1) := dk_3 (dk_at dksX0_passes_2 12 rfl rfl)
theorem dX0_passes_60 : decode cX0_passes 60 = .ok (.dup2, 1) := dk_92 (dk_at dksX0_passes_2 13 rfl rfl)
theorem dX0_passes_61 : decode cX0_passes 61 = .ok (.iaload, 1) := dk_46 (dk_at dksX0_passes_2 14 rfl rfl)
theorem dX0_passes_62 : decode cX0_passes 62 = .ok (.iconst 1, 1) := dk_4 (dk_at dksX0_passes_2 15 rfl rfl)
theorem dX0_passes_63 : decode cX0_passes 63 = .ok (.iadd, 1) := dk_96 (dk_at dksX0_passes_2 16 rfl rfl)
theorem dX0_passes_64 : decode cX0_passes 64 = .ok (.iastore, 1) := dk_79 (dk_at dksX0_passes_2 17 rfl rfl)
theorem dX0_passes_65 : decode cX0_passes 65 = .ok (.iload_n 2, 1) := dk_28 (dk_at dksX0_passes_2 18 rfl rfl)
theorem dX0_passes_66 : decode cX0_passes 66 = .ok (.ireturn, 1) := dk_172 (dk_at dksX0_passes_2 19 rfl rfl)
abbrev cX0_thickens : ByteArray := prog_1_method_33_code
def yX0_thickens : MethodName := ⟨RX0, "thickens", "([I)V"⟩
def dkwX0_thickens_1 : List UInt8 := [43, 16, 32, 28, 96, 46, 42, 43, 28, 182, 0, 186, 96, 184, 0, 189, 79, 132, 2, 1, 167, 255, 214, 177]
abbrev dktX0_thickens_1 : List UInt8 := dkwX0_thickens_1 ++ []
def dkwX0_thickens_0 : List UInt8 := [3, 61, 28, 16, 30, 162, 0, 42, 43, 5, 28, 96, 46, 4, 160, 0, 27, 43, 16, 32, 28, 96, 16, 9]
abbrev dktX0_thickens_0 : List UInt8 := dkwX0_thickens_0 ++ dktX0_thickens_1
theorem dksX0_thickens_0 : cX0_thickens.data.toList.drop 0 = dktX0_thickens_0 := by decide +kernel
theorem dksX0_thickens_1 : cX0_thickens.data.toList.drop 24 = dktX0_thickens_1 := dk_seg dksX0_thickens_0 24 rfl rfl
theorem dX0_thickens_0 : decode cX0_thickens 0 = .ok (.iconst 0, 1) := dk_3 (dk_at dksX0_thickens_0 0 rfl rfl)
theorem dX0_thickens_1 : decode cX0_thickens 1 = .ok (.istore_n 2, 1) := dk_61 (dk_at dksX0_thickens_0 1 rfl rfl)
theorem dX0_thickens_2 : decode cX0_thickens 2 = .ok (.iload_n 2, 1) := dk_28 (dk_at dksX0_thickens_0 2 rfl rfl)
theorem dX0_thickens_3 : decode cX0_thickens 3 = .ok (.bipush 30, 2) := dk_16 30 (dk_at dksX0_thickens_0 3 rfl rfl)
theorem dX0_thickens_5 : decode cX0_thickens 5 = .ok (.if_icmp .ge 42, 3) := dk_162 0 42 (dk_at dksX0_thickens_0 5 rfl rfl)
theorem dX0_thickens_8 : decode cX0_thickens 8 = .ok (.aload_n 1, 1) := dk_43 (dk_at dksX0_thickens_0 8 rfl rfl)
theorem dX0_thickens_9 : decode cX0_thickens 9 = .ok (.iconst 2, 1) := dk_5 (dk_at dksX0_thickens_0 9 rfl rfl)
theorem dX0_thickens_10 : decode cX0_thickens 10 = .ok (.iload_n 2, 1) := dk_28 (dk_at dksX0_thickens_0 10 rfl rfl)
theorem dX0_thickens_11 : decode cX0_thickens 11 = .ok (.iadd, 1) := dk_96 (dk_at dksX0_thickens_0 11 rfl rfl)
theorem dX0_thickens_12 : decode cX0_thickens 12 = .ok (.iaload, 1) := dk_46 (dk_at dksX0_thickens_0 12 rfl rfl)
theorem dX0_thickens_13 : decode cX0_thickens 13 = .ok (.iconst 1, 1) := dk_4 (dk_at dksX0_thickens_0 13 rfl rfl)
theorem dX0_thickens_14 : decode cX0_thickens 14 = .ok (.if_icmp .ne 27, 3) := dk_160 0 27 (dk_at dksX0_thickens_0 14 rfl rfl)
theorem dX0_thickens_17 : decode cX0_thickens 17 = .ok (.aload_n 1, 1) := dk_43 (dk_at dksX0_thickens_0 17 rfl rfl)
theorem dX0_thickens_18 : decode cX0_thickens 18 = .ok (.bipush 32, 2) := dk_16 32 (dk_at dksX0_thickens_0 18 rfl rfl)
theorem dX0_thickens_20 : decode cX0_thickens 20 = .ok (.iload_n 2, 1) := dk_28 (dk_at dksX0_thickens_0 20 rfl rfl)
theorem dX0_thickens_21 : decode cX0_thickens 21 = .ok (.iadd, 1) := dk_96 (dk_at dksX0_thickens_0 21 rfl rfl)
theorem dX0_thickens_22 : decode cX0_thickens 22 = .ok (.bipush 9, 2) := dk_16 9 (dk_at dksX0_thickens_0 22 rfl rfl)
theorem dX0_thickens_24 : decode cX0_thickens 24 = .ok (.aload_n 1, 1) := dk_43 (dk_at dksX0_thickens_1 0 rfl rfl)
theorem dX0_thickens_25 : decode cX0_thickens 25 = .ok (.bipush 32, 2) := dk_16 32 (dk_at dksX0_thickens_1 1 rfl rfl)
theorem dX0_thickens_27 : decode cX0_thickens 27 = .ok (.iload_n 2, 1) := dk_28 (dk_at dksX0_thickens_1 3 rfl rfl)
theorem dX0_thickens_28 : decode cX0_thickens 28 = .ok (.iadd, 1) := dk_96 (dk_at dksX0_thickens_1 4 rfl rfl)
theorem dX0_thickens_29 : decode cX0_thickens 29 = .ok (.iaload, 1) := dk_46 (dk_at dksX0_thickens_1 5 rfl rfl)
theorem dX0_thickens_30 : decode cX0_thickens 30 = .ok (.aload_n 0, 1) := dk_42 (dk_at dksX0_thickens_1 6 rfl rfl)
theorem dX0_thickens_31 : decode cX0_thickens 31 = .ok (.aload_n 1, 1) := dk_43 (dk_at dksX0_thickens_1 7 rfl rfl)
theorem dX0_thickens_32 : decode cX0_thickens 32 = .ok (.iload_n 2, 1) := dk_28 (dk_at dksX0_thickens_1 8 rfl rfl)
theorem dX0_thickens_33 : decode cX0_thickens 33 = .ok (.invokevirtual 186, 3) := dk_182 0 186 (dk_at dksX0_thickens_1 9 rfl rfl)
theorem dX0_thickens_36 : decode cX0_thickens 36 = .ok (.iadd, 1) := dk_96 (dk_at dksX0_thickens_1 12 rfl rfl)
theorem dX0_thickens_37 : decode cX0_thickens 37 = .ok (.invokestatic 189, 3) := dk_184 0 189 (dk_at dksX0_thickens_1 13 rfl rfl)
theorem dX0_thickens_40 : decode cX0_thickens 40 = .ok (.iastore, 1) := dk_79 (dk_at dksX0_thickens_1 16 rfl rfl)
theorem dX0_thickens_41 : decode cX0_thickens 41 = .ok (.iinc 2 1, 3) := dk_132 2 1 (dk_at dksX0_thickens_1 17 rfl rfl)
theorem dX0_thickens_44 : decode cX0_thickens 44 = .ok (.goto (-42), 3) := dk_167 255 214 (dk_at dksX0_thickens_1 20 rfl rfl)
theorem dX0_thickens_47 : decode cX0_thickens 47 = .ok (.return_, 1) := dk_177 (dk_at dksX0_thickens_1 23 rfl rfl)
abbrev cX0_paintsOf : ByteArray := prog_1_method_22_code
def yX0_paintsOf : MethodName := ⟨RX0, "paintsOf", "([II)I"⟩
def dkwX0_paintsOf_0 : List UInt8 := [42, 43, 28, 182, 0, 137, 42, 42, 182, 0, 144, 4, 16, 9, 182, 0, 141, 172]
abbrev dktX0_paintsOf_0 : List UInt8 := dkwX0_paintsOf_0 ++ []
theorem dksX0_paintsOf_0 : cX0_paintsOf.data.toList.drop 0 = dktX0_paintsOf_0 := by decide +kernel
theorem dX0_paintsOf_0 : decode cX0_paintsOf 0 = .ok (.aload_n 0, 1) := dk_42 (dk_at dksX0_paintsOf_0 0 rfl rfl)
theorem dX0_paintsOf_1 : decode cX0_paintsOf 1 = .ok (.aload_n 1, 1) := dk_43 (dk_at dksX0_paintsOf_0 1 rfl rfl)
theorem dX0_paintsOf_2 : decode cX0_paintsOf 2 = .ok (.iload_n 2, 1) := dk_28 (dk_at dksX0_paintsOf_0 2 rfl rfl)
theorem dX0_paintsOf_3 : decode cX0_paintsOf 3 = .ok (.invokevirtual 137, 3) := dk_182 0 137 (dk_at dksX0_paintsOf_0 3 rfl rfl)
theorem dX0_paintsOf_6 : decode cX0_paintsOf 6 = .ok (.aload_n 0, 1) := dk_42 (dk_at dksX0_paintsOf_0 6 rfl rfl)
theorem dX0_paintsOf_7 : decode cX0_paintsOf 7 = .ok (.aload_n 0, 1) := dk_42 (dk_at dksX0_paintsOf_0 7 rfl rfl)
theorem dX0_paintsOf_8 : decode cX0_paintsOf 8 = .ok (.invokevirtual 144, 3) := dk_182 0 144 (dk_at dksX0_paintsOf_0 8 rfl rfl)
theorem dX0_paintsOf_11 : decode cX0_paintsOf 11 = .ok (.iconst 1, 1) := dk_4 (dk_at dksX0_paintsOf_0 11 rfl rfl)
theorem dX0_paintsOf_12 : decode cX0_paintsOf 12 = .ok (.bipush 9, 2) := dk_16 9 (dk_at dksX0_paintsOf_0 12 rfl rfl)
theorem dX0_paintsOf_14 : decode cX0_paintsOf 14 = .ok (.invokevirtual 141, 3) := dk_182 0 141 (dk_at dksX0_paintsOf_0 14 rfl rfl)
theorem dX0_paintsOf_17 : decode cX0_paintsOf 17 = .ok (.ireturn, 1) := dk_172 (dk_at dksX0_paintsOf_0 17 rfl rfl)
abbrev cX0_played : ByteArray := prog_1_method_38_code
def yX0_played : MethodName := ⟨RX0, "played", "(I)I"⟩
def dkwX0_played_2 : List UInt8 := [154, 0, 15, 44, 29, 182, 0, 245, 192, 0, 204, 182, 0, 253, 172, 132, 3, 1, 167, 255, 218, 2, 172]
abbrev dktX0_played_2 : List UInt8 := dkwX0_played_2 ++ []
def dkwX0_played_1 : List UInt8 := [3, 62, 29, 44, 182, 0, 240, 162, 0, 36, 42, 44, 29, 182, 0, 245, 192, 0, 204, 182, 0, 249]
abbrev dktX0_played_1 : List UInt8 := dkwX0_played_1 ++ dktX0_played_2
def dkwX0_played_0 : List UInt8 := [42, 27, 182, 0, 108, 154, 0, 6, 16, 254, 172, 42, 180, 0, 21, 180, 0, 89, 27, 50, 180, 0, 236, 77]
abbrev dktX0_played_0 : List UInt8 := dkwX0_played_0 ++ dktX0_played_1
theorem dksX0_played_0 : cX0_played.data.toList.drop 0 = dktX0_played_0 := by decide +kernel
theorem dksX0_played_1 : cX0_played.data.toList.drop 24 = dktX0_played_1 := dk_seg dksX0_played_0 24 rfl rfl
theorem dksX0_played_2 : cX0_played.data.toList.drop 46 = dktX0_played_2 := dk_seg dksX0_played_1 22 rfl rfl
theorem dX0_played_0 : decode cX0_played 0 = .ok (.aload_n 0, 1) := dk_42 (dk_at dksX0_played_0 0 rfl rfl)
theorem dX0_played_1 : decode cX0_played 1 = .ok (.iload_n 1, 1) := dk_27 (dk_at dksX0_played_0 1 rfl rfl)
theorem dX0_played_2 : decode cX0_played 2 = .ok (.invokevirtual 108, 3) := dk_182 0 108 (dk_at dksX0_played_0 2 rfl rfl)
theorem dX0_played_5 : decode cX0_played 5 = .ok (.ifCond .ne 6, 3) := dk_154 0 6 (dk_at dksX0_played_0 5 rfl rfl)
theorem dX0_played_8 : decode cX0_played 8 = .ok (.bipush (-2), 2) := dk_16 254 (dk_at dksX0_played_0 8 rfl rfl)
theorem dX0_played_10 : decode cX0_played 10 = .ok (.ireturn, 1) := dk_172 (dk_at dksX0_played_0 10 rfl rfl)
theorem dX0_played_11 : decode cX0_played 11 = .ok (.aload_n 0, 1) := dk_42 (dk_at dksX0_played_0 11 rfl rfl)
theorem dX0_played_12 : decode cX0_played 12 = .ok (.getfield 21, 3) := dk_180 0 21 (dk_at dksX0_played_0 12 rfl rfl)
theorem dX0_played_15 : decode cX0_played 15 = .ok (.getfield 89, 3) := dk_180 0 89 (dk_at dksX0_played_0 15 rfl rfl)
theorem dX0_played_18 : decode cX0_played 18 = .ok (.iload_n 1, 1) := dk_27 (dk_at dksX0_played_0 18 rfl rfl)
theorem dX0_played_19 : decode cX0_played 19 = .ok (.aaload, 1) := dk_50 (dk_at dksX0_played_0 19 rfl rfl)
theorem dX0_played_20 : decode cX0_played 20 = .ok (.getfield 236, 3) := dk_180 0 236 (dk_at dksX0_played_0 20 rfl rfl)
theorem dX0_played_23 : decode cX0_played 23 = .ok (.astore_n 2, 1) := dk_77 (dk_at dksX0_played_0 23 rfl rfl)
theorem dX0_played_24 : decode cX0_played 24 = .ok (.iconst 0, 1) := dk_3 (dk_at dksX0_played_1 0 rfl rfl)
theorem dX0_played_25 : decode cX0_played 25 = .ok (.istore_n 3, 1) := dk_62 (dk_at dksX0_played_1 1 rfl rfl)
theorem dX0_played_26 : decode cX0_played 26 = .ok (.iload_n 3, 1) := dk_29 (dk_at dksX0_played_1 2 rfl rfl)
theorem dX0_played_27 : decode cX0_played 27 = .ok (.aload_n 2, 1) := dk_44 (dk_at dksX0_played_1 3 rfl rfl)
theorem dX0_played_28 : decode cX0_played 28 = .ok (.invokevirtual 240, 3) := dk_182 0 240 (dk_at dksX0_played_1 4 rfl rfl)
theorem dX0_played_31 : decode cX0_played 31 = .ok (.if_icmp .ge 36, 3) := dk_162 0 36 (dk_at dksX0_played_1 7 rfl rfl)
theorem dX0_played_34 : decode cX0_played 34 = .ok (.aload_n 0, 1) := dk_42 (dk_at dksX0_played_1 10 rfl rfl)
theorem dX0_played_35 : decode cX0_played 35 = .ok (.aload_n 2, 1) := dk_44 (dk_at dksX0_played_1 11 rfl rfl)
theorem dX0_played_36 : decode cX0_played 36 = .ok (.iload_n 3, 1) := dk_29 (dk_at dksX0_played_1 12 rfl rfl)
theorem dX0_played_37 : decode cX0_played 37 = .ok (.invokevirtual 245, 3) := dk_182 0 245 (dk_at dksX0_played_1 13 rfl rfl)
theorem dX0_played_40 : decode cX0_played 40 = .ok (.checkcast 204, 3) := dk_192 0 204 (dk_at dksX0_played_1 16 rfl rfl)
theorem dX0_played_43 : decode cX0_played 43 = .ok (.invokevirtual 249, 3) := dk_182 0 249 (dk_at dksX0_played_1 19 rfl rfl)
theorem dX0_played_46 : decode cX0_played 46 = .ok (.ifCond .ne 15, 3) := dk_154 0 15 (dk_at dksX0_played_2 0 rfl rfl)
theorem dX0_played_49 : decode cX0_played 49 = .ok (.aload_n 2, 1) := dk_44 (dk_at dksX0_played_2 3 rfl rfl)
theorem dX0_played_50 : decode cX0_played 50 = .ok (.iload_n 3, 1) := dk_29 (dk_at dksX0_played_2 4 rfl rfl)
theorem dX0_played_51 : decode cX0_played 51 = .ok (.invokevirtual 245, 3) := dk_182 0 245 (dk_at dksX0_played_2 5 rfl rfl)
theorem dX0_played_54 : decode cX0_played 54 = .ok (.checkcast 204, 3) := dk_192 0 204 (dk_at dksX0_played_2 8 rfl rfl)
theorem dX0_played_57 : decode cX0_played 57 = .ok (.invokevirtual 253, 3) := dk_182 0 253 (dk_at dksX0_played_2 11 rfl rfl)
theorem dX0_played_60 : decode cX0_played 60 = .ok (.ireturn, 1) := dk_172 (dk_at dksX0_played_2 14 rfl rfl)
theorem dX0_played_61 : decode cX0_played 61 = .ok (.iinc 3 1, 3) := dk_132 3 1 (dk_at dksX0_played_2 15 rfl rfl)
theorem dX0_played_64 : decode cX0_played 64 = .ok (.goto (-38), 3) := dk_167 255 218 (dk_at dksX0_played_2 18 rfl rfl)
theorem dX0_played_67 : decode cX0_played 67 = .ok (.iconst (-1), 1) := dk_2 (dk_at dksX0_played_2 21 rfl rfl)
theorem dX0_played_68 : decode cX0_played 68 = .ok (.ireturn, 1) := dk_172 (dk_at dksX0_played_2 22 rfl rfl)
abbrev cX0_does : ByteArray := prog_1_method_37_code
def yX0_does : MethodName := ⟨RX0, "does", "(LRailingsCount$Doing;)Z"⟩
def dkwX0_does_6 : List UInt8 := [182, 0, 233, 172]
abbrev dktX0_does_6 : List UInt8 := dkwX0_does_6 ++ []
def dkwX0_does_5 : List UInt8 := [42, 43, 182, 0, 209, 182, 0, 227, 172, 42, 43, 182, 0, 209, 182, 0, 230, 172, 42, 43, 182, 0, 209]
abbrev dktX0_does_5 : List UInt8 := dkwX0_does_5 ++ dktX0_does_6
def dkwX0_does_4 : List UInt8 := [3, 172, 42, 43, 182, 0, 209, 43, 182, 0, 212, 182, 0, 224, 2, 159, 0, 7, 4, 167, 0, 4, 3, 172]
abbrev dktX0_does_4 : List UInt8 := dkwX0_does_4 ++ dktX0_does_5
def dkwX0_does_3 : List UInt8 := [182, 0, 218, 172, 42, 43, 182, 0, 209, 43, 182, 0, 212, 182, 0, 221, 2, 159, 0, 7, 4, 167, 0, 4]
abbrev dktX0_does_3 : List UInt8 := dkwX0_does_3 ++ dktX0_does_4
def dkwX0_does_2 : List UInt8 := [42, 43, 182, 0, 209, 43, 182, 0, 212, 182, 0, 215, 172, 42, 43, 182, 0, 212, 43, 182, 0, 209]
abbrev dktX0_does_2 : List UInt8 := dkwX0_does_2 ++ dktX0_does_3
def dkwX0_does_1 : List UInt8 := [170, 0, 0, 0, 0, 0, 0, 128, 0, 0, 0, 202, 0, 0, 0, 207, 0, 0, 0, 40, 0, 0, 0, 53, 0, 0, 0, 66, 0, 0, 0, 88, 0, 0, 0, 110, 0, 0, 0, 119]
abbrev dktX0_does_1 : List UInt8 := dkwX0_does_1 ++ dktX0_does_2
def dkwX0_does_0 : List UInt8 := [43, 182, 0, 203]
abbrev dktX0_does_0 : List UInt8 := dkwX0_does_0 ++ dktX0_does_1
theorem dksX0_does_0 : cX0_does.data.toList.drop 0 = dktX0_does_0 := by decide +kernel
theorem dksX0_does_1 : cX0_does.data.toList.drop 4 = dktX0_does_1 := dk_seg dksX0_does_0 4 rfl rfl
theorem dksX0_does_2 : cX0_does.data.toList.drop 44 = dktX0_does_2 := dk_seg dksX0_does_1 40 rfl rfl
theorem dksX0_does_3 : cX0_does.data.toList.drop 66 = dktX0_does_3 := dk_seg dksX0_does_2 22 rfl rfl
theorem dksX0_does_4 : cX0_does.data.toList.drop 90 = dktX0_does_4 := dk_seg dksX0_does_3 24 rfl rfl
theorem dksX0_does_5 : cX0_does.data.toList.drop 114 = dktX0_does_5 := dk_seg dksX0_does_4 24 rfl rfl
theorem dksX0_does_6 : cX0_does.data.toList.drop 137 = dktX0_does_6 := dk_seg dksX0_does_5 23 rfl rfl
theorem dX0_does_0 : decode cX0_does 0 = .ok (.aload_n 1, 1) := dk_43 (dk_at dksX0_does_0 0 rfl rfl)
theorem dX0_does_1 : decode cX0_does 1 = .ok (.invokevirtual 203, 3) := dk_182 0 203 (dk_at dksX0_does_0 1 rfl rfl)
theorem dX0_does_4 : decode cX0_does 4 = .ok (.tableswitch 128 202 207 #[40, 53, 66, 88, 110, 119], 40) := by decide +kernel
theorem dX0_does_44 : decode cX0_does 44 = .ok (.aload_n 0, 1) := dk_42 (dk_at dksX0_does_2 0 rfl rfl)
theorem dX0_does_45 : decode cX0_does 45 = .ok (.aload_n 1, 1) := dk_43 (dk_at dksX0_does_2 1 rfl rfl)
theorem dX0_does_46 : decode cX0_does 46 = .ok (.invokevirtual 209, 3) := dk_182 0 209 (dk_at dksX0_does_2 2 rfl rfl)
theorem dX0_does_49 : decode cX0_does 49 = .ok (.aload_n 1, 1) := dk_43 (dk_at dksX0_does_2 5 rfl rfl)
theorem dX0_does_50 : decode cX0_does 50 = .ok (.invokevirtual 212, 3) := dk_182 0 212 (dk_at dksX0_does_2 6 rfl rfl)
theorem dX0_does_53 : decode cX0_does 53 = .ok (.invokevirtual 215, 3) := dk_182 0 215 (dk_at dksX0_does_2 9 rfl rfl)
theorem dX0_does_56 : decode cX0_does 56 = .ok (.ireturn, 1) := dk_172 (dk_at dksX0_does_2 12 rfl rfl)
theorem dX0_does_57 : decode cX0_does 57 = .ok (.aload_n 0, 1) := dk_42 (dk_at dksX0_does_2 13 rfl rfl)
theorem dX0_does_58 : decode cX0_does 58 = .ok (.aload_n 1, 1) := dk_43 (dk_at dksX0_does_2 14 rfl rfl)
theorem dX0_does_59 : decode cX0_does 59 = .ok (.invokevirtual 212, 3) := dk_182 0 212 (dk_at dksX0_does_2 15 rfl rfl)
theorem dX0_does_62 : decode cX0_does 62 = .ok (.aload_n 1, 1) := dk_43 (dk_at dksX0_does_2 18 rfl rfl)
theorem dX0_does_63 : decode cX0_does 63 = .ok (.invokevirtual 209, 3) := dk_182 0 209 (dk_at dksX0_does_2 19 rfl rfl)
theorem dX0_does_66 : decode cX0_does 66 = .ok (.invokevirtual 218, 3) := dk_182 0 218 (dk_at dksX0_does_3 0 rfl rfl)
theorem dX0_does_69 : decode cX0_does 69 = .ok (.ireturn, 1) := dk_172 (dk_at dksX0_does_3 3 rfl rfl)
theorem dX0_does_70 : decode cX0_does 70 = .ok (.aload_n 0, 1) := dk_42 (dk_at dksX0_does_3 4 rfl rfl)
theorem dX0_does_71 : decode cX0_does 71 = .ok (.aload_n 1, 1) := dk_43 (dk_at dksX0_does_3 5 rfl rfl)
theorem dX0_does_72 : decode cX0_does 72 = .ok (.invokevirtual 209, 3) := dk_182 0 209 (dk_at dksX0_does_3 6 rfl rfl)
theorem dX0_does_75 : decode cX0_does 75 = .ok (.aload_n 1, 1) := dk_43 (dk_at dksX0_does_3 9 rfl rfl)
theorem dX0_does_76 : decode cX0_does 76 = .ok (.invokevirtual 212, 3) := dk_182 0 212 (dk_at dksX0_does_3 10 rfl rfl)
theorem dX0_does_79 : decode cX0_does 79 = .ok (.invokevirtual 221, 3) := dk_182 0 221 (dk_at dksX0_does_3 13 rfl rfl)
theorem dX0_does_82 : decode cX0_does 82 = .ok (.iconst (-1), 1) := dk_2 (dk_at dksX0_does_3 16 rfl rfl)
theorem dX0_does_83 : decode cX0_does 83 = .ok (.if_icmp .eq 7, 3) := dk_159 0 7 (dk_at dksX0_does_3 17 rfl rfl)
theorem dX0_does_86 : decode cX0_does 86 = .ok (.iconst 1, 1) := dk_4 (dk_at dksX0_does_3 20 rfl rfl)
theorem dX0_does_87 : decode cX0_does 87 = .ok (.goto 4, 3) := dk_167 0 4 (dk_at dksX0_does_3 21 rfl rfl)
theorem dX0_does_90 : decode cX0_does 90 = .ok (.iconst 0, 1) := dk_3 (dk_at dksX0_does_4 0 rfl rfl)
theorem dX0_does_91 : decode cX0_does 91 = .ok (.ireturn, 1) := dk_172 (dk_at dksX0_does_4 1 rfl rfl)
theorem dX0_does_92 : decode cX0_does 92 = .ok (.aload_n 0, 1) := dk_42 (dk_at dksX0_does_4 2 rfl rfl)
theorem dX0_does_93 : decode cX0_does 93 = .ok (.aload_n 1, 1) := dk_43 (dk_at dksX0_does_4 3 rfl rfl)
theorem dX0_does_94 : decode cX0_does 94 = .ok (.invokevirtual 209, 3) := dk_182 0 209 (dk_at dksX0_does_4 4 rfl rfl)
theorem dX0_does_97 : decode cX0_does 97 = .ok (.aload_n 1, 1) := dk_43 (dk_at dksX0_does_4 7 rfl rfl)
theorem dX0_does_98 : decode cX0_does 98 = .ok (.invokevirtual 212, 3) := dk_182 0 212 (dk_at dksX0_does_4 8 rfl rfl)
theorem dX0_does_101 : decode cX0_does 101 = .ok (.invokevirtual 224, 3) := dk_182 0 224 (dk_at dksX0_does_4 11 rfl rfl)
theorem dX0_does_104 : decode cX0_does 104 = .ok (.iconst (-1), 1) := dk_2 (dk_at dksX0_does_4 14 rfl rfl)
theorem dX0_does_105 : decode cX0_does 105 = .ok (.if_icmp .eq 7, 3) := dk_159 0 7 (dk_at dksX0_does_4 15 rfl rfl)
theorem dX0_does_108 : decode cX0_does 108 = .ok (.iconst 1, 1) := dk_4 (dk_at dksX0_does_4 18 rfl rfl)
theorem dX0_does_109 : decode cX0_does 109 = .ok (.goto 4, 3) := dk_167 0 4 (dk_at dksX0_does_4 19 rfl rfl)
theorem dX0_does_112 : decode cX0_does 112 = .ok (.iconst 0, 1) := dk_3 (dk_at dksX0_does_4 22 rfl rfl)
theorem dX0_does_113 : decode cX0_does 113 = .ok (.ireturn, 1) := dk_172 (dk_at dksX0_does_4 23 rfl rfl)
theorem dX0_does_114 : decode cX0_does 114 = .ok (.aload_n 0, 1) := dk_42 (dk_at dksX0_does_5 0 rfl rfl)
theorem dX0_does_115 : decode cX0_does 115 = .ok (.aload_n 1, 1) := dk_43 (dk_at dksX0_does_5 1 rfl rfl)
theorem dX0_does_116 : decode cX0_does 116 = .ok (.invokevirtual 209, 3) := dk_182 0 209 (dk_at dksX0_does_5 2 rfl rfl)
theorem dX0_does_119 : decode cX0_does 119 = .ok (.invokevirtual 227, 3) := dk_182 0 227 (dk_at dksX0_does_5 5 rfl rfl)
theorem dX0_does_122 : decode cX0_does 122 = .ok (.ireturn, 1) := dk_172 (dk_at dksX0_does_5 8 rfl rfl)
theorem dX0_does_123 : decode cX0_does 123 = .ok (.aload_n 0, 1) := dk_42 (dk_at dksX0_does_5 9 rfl rfl)
theorem dX0_does_124 : decode cX0_does 124 = .ok (.aload_n 1, 1) := dk_43 (dk_at dksX0_does_5 10 rfl rfl)
theorem dX0_does_125 : decode cX0_does 125 = .ok (.invokevirtual 209, 3) := dk_182 0 209 (dk_at dksX0_does_5 11 rfl rfl)
theorem dX0_does_128 : decode cX0_does 128 = .ok (.invokevirtual 230, 3) := dk_182 0 230 (dk_at dksX0_does_5 14 rfl rfl)
theorem dX0_does_131 : decode cX0_does 131 = .ok (.ireturn, 1) := dk_172 (dk_at dksX0_does_5 17 rfl rfl)
theorem dX0_does_132 : decode cX0_does 132 = .ok (.aload_n 0, 1) := dk_42 (dk_at dksX0_does_5 18 rfl rfl)
theorem dX0_does_133 : decode cX0_does 133 = .ok (.aload_n 1, 1) := dk_43 (dk_at dksX0_does_5 19 rfl rfl)
theorem dX0_does_134 : decode cX0_does 134 = .ok (.invokevirtual 209, 3) := dk_182 0 209 (dk_at dksX0_does_5 20 rfl rfl)
theorem dX0_does_137 : decode cX0_does 137 = .ok (.invokevirtual 233, 3) := dk_182 0 233 (dk_at dksX0_does_6 0 rfl rfl)
theorem dX0_does_140 : decode cX0_does 140 = .ok (.ireturn, 1) := dk_172 (dk_at dksX0_does_6 3 rfl rfl)
abbrev cX0_passesAll : ByteArray := prog_1_method_36_code
def yX0_passesAll : MethodName := ⟨RX0, "passesAll", "(I)Z"⟩
def dkwX0_passesAll_1 : List UInt8 := [4, 172]
abbrev dktX0_passesAll_1 : List UInt8 := dkwX0_passesAll_1 ++ []
def dkwX0_passesAll_0 : List UInt8 := [3, 61, 28, 27, 162, 0, 20, 42, 4, 182, 0, 200, 2, 160, 0, 5, 3, 172, 132, 2, 1, 167, 255, 237]
abbrev dktX0_passesAll_0 : List UInt8 := dkwX0_passesAll_0 ++ dktX0_passesAll_1
theorem dksX0_passesAll_0 : cX0_passesAll.data.toList.drop 0 = dktX0_passesAll_0 := by decide +kernel
theorem dksX0_passesAll_1 : cX0_passesAll.data.toList.drop 24 = dktX0_passesAll_1 := dk_seg dksX0_passesAll_0 24 rfl rfl
theorem dX0_passesAll_0 : decode cX0_passesAll 0 = .ok (.iconst 0, 1) := dk_3 (dk_at dksX0_passesAll_0 0 rfl rfl)
theorem dX0_passesAll_1 : decode cX0_passesAll 1 = .ok (.istore_n 2, 1) := dk_61 (dk_at dksX0_passesAll_0 1 rfl rfl)
theorem dX0_passesAll_2 : decode cX0_passesAll 2 = .ok (.iload_n 2, 1) := dk_28 (dk_at dksX0_passesAll_0 2 rfl rfl)
theorem dX0_passesAll_3 : decode cX0_passesAll 3 = .ok (.iload_n 1, 1) := dk_27 (dk_at dksX0_passesAll_0 3 rfl rfl)
theorem dX0_passesAll_4 : decode cX0_passesAll 4 = .ok (.if_icmp .ge 20, 3) := dk_162 0 20 (dk_at dksX0_passesAll_0 4 rfl rfl)
theorem dX0_passesAll_7 : decode cX0_passesAll 7 = .ok (.aload_n 0, 1) := dk_42 (dk_at dksX0_passesAll_0 7 rfl rfl)
theorem dX0_passesAll_8 : decode cX0_passesAll 8 = .ok (.iconst 1, 1) := dk_4 (dk_at dksX0_passesAll_0 8 rfl rfl)
theorem dX0_passesAll_9 : decode cX0_passesAll 9 = .ok (.invokevirtual 200, 3) := dk_182 0 200 (dk_at dksX0_passesAll_0 9 rfl rfl)
theorem dX0_passesAll_12 : decode cX0_passesAll 12 = .ok (.iconst (-1), 1) := dk_2 (dk_at dksX0_passesAll_0 12 rfl rfl)
theorem dX0_passesAll_13 : decode cX0_passesAll 13 = .ok (.if_icmp .ne 5, 3) := dk_160 0 5 (dk_at dksX0_passesAll_0 13 rfl rfl)
theorem dX0_passesAll_16 : decode cX0_passesAll 16 = .ok (.iconst 0, 1) := dk_3 (dk_at dksX0_passesAll_0 16 rfl rfl)
theorem dX0_passesAll_17 : decode cX0_passesAll 17 = .ok (.ireturn, 1) := dk_172 (dk_at dksX0_passesAll_0 17 rfl rfl)
theorem dX0_passesAll_18 : decode cX0_passesAll 18 = .ok (.iinc 2 1, 3) := dk_132 2 1 (dk_at dksX0_passesAll_0 18 rfl rfl)
theorem dX0_passesAll_21 : decode cX0_passesAll 21 = .ok (.goto (-19), 3) := dk_167 255 237 (dk_at dksX0_passesAll_0 21 rfl rfl)
theorem dX0_passesAll_24 : decode cX0_passesAll 24 = .ok (.iconst 1, 1) := dk_4 (dk_at dksX0_passesAll_1 0 rfl rfl)
theorem dX0_passesAll_25 : decode cX0_passesAll 25 = .ok (.ireturn, 1) := dk_172 (dk_at dksX0_passesAll_1 1 rfl rfl)
abbrev cX0_ages : ByteArray := prog_1_method_40_code
def yX0_ages : MethodName := ⟨RX0, "ages", "(II)I"⟩
def dkwX0_ages_5 : List UInt8 := [180, 0, 65, 182, 0, 196, 96, 62, 132, 4, 1, 167, 255, 176, 42, 180, 0, 21, 180, 0, 65, 3, 46, 172]
abbrev dktX0_ages_5 : List UInt8 := dkwX0_ages_5 ++ []
def dkwX0_ages_4 : List UInt8 := [167, 0, 32, 42, 180, 0, 21, 180, 0, 65, 3, 46, 17, 39, 15, 162, 0, 17, 29, 42, 42, 180, 0, 21]
abbrev dktX0_ages_4 : List UInt8 := dkwX0_ages_4 ++ dktX0_ages_5
def dkwX0_ages_3 : List UInt8 := [180, 0, 65, 5, 184, 0, 147, 54, 6, 21, 5, 16, 6, 112, 7, 162, 0, 12, 42, 21, 5, 182, 1, 0]
abbrev dktX0_ages_3 : List UInt8 := dkwX0_ages_3 ++ dktX0_ages_4
def dkwX0_ages_2 : List UInt8 := [3, 54, 4, 21, 4, 28, 162, 0, 80, 42, 180, 0, 21, 180, 0, 65, 4, 46, 54, 5, 42, 180, 0, 21]
abbrev dktX0_ages_2 : List UInt8 := dkwX0_ages_2 ++ dktX0_ages_3
def dkwX0_ages_1 : List UInt8 := [180, 0, 21, 182, 0, 165, 42, 180, 0, 21, 180, 0, 65, 4, 27, 5, 104, 17, 1, 7, 96, 79, 3, 62]
abbrev dktX0_ages_1 : List UInt8 := dkwX0_ages_1 ++ dktX0_ages_2
def dkwX0_ages_0 : List UInt8 := [27, 3, 17, 39, 15, 184, 0, 58, 153, 0, 13, 28, 4, 16, 40, 184, 0, 58, 154, 0, 5, 2, 172, 42]
abbrev dktX0_ages_0 : List UInt8 := dkwX0_ages_0 ++ dktX0_ages_1
theorem dksX0_ages_0 : cX0_ages.data.toList.drop 0 = dktX0_ages_0 := by decide +kernel
theorem dksX0_ages_1 : cX0_ages.data.toList.drop 24 = dktX0_ages_1 := dk_seg dksX0_ages_0 24 rfl rfl
theorem dksX0_ages_2 : cX0_ages.data.toList.drop 48 = dktX0_ages_2 := dk_seg dksX0_ages_1 24 rfl rfl
theorem dksX0_ages_3 : cX0_ages.data.toList.drop 72 = dktX0_ages_3 := dk_seg dksX0_ages_2 24 rfl rfl
theorem dksX0_ages_4 : cX0_ages.data.toList.drop 96 = dktX0_ages_4 := dk_seg dksX0_ages_3 24 rfl rfl
theorem dksX0_ages_5 : cX0_ages.data.toList.drop 120 = dktX0_ages_5 := dk_seg dksX0_ages_4 24 rfl rfl
theorem dX0_ages_0 : decode cX0_ages 0 = .ok (.iload_n 1, 1) := dk_27 (dk_at dksX0_ages_0 0 rfl rfl)
theorem dX0_ages_1 : decode cX0_ages 1 = .ok (.iconst 0, 1) := dk_3 (dk_at dksX0_ages_0 1 rfl rfl)
theorem dX0_ages_2 : decode cX0_ages 2 = .ok (.sipush 9999, 3) := dk_17 39 15 (dk_at dksX0_ages_0 2 rfl rfl)
theorem dX0_ages_5 : decode cX0_ages 5 = .ok (.invokestatic 58, 3) := dk_184 0 58 (dk_at dksX0_ages_0 5 rfl rfl)
theorem dX0_ages_8 : decode cX0_ages 8 = .ok (.ifCond .eq 13, 3) := dk_153 0 13 (dk_at dksX0_ages_0 8 rfl rfl)
theorem dX0_ages_11 : decode cX0_ages 11 = .ok (.iload_n 2, 1) := dk_28 (dk_at dksX0_ages_0 11 rfl rfl)
theorem dX0_ages_12 : decode cX0_ages 12 = .ok (.iconst 1, 1) := dk_4 (dk_at dksX0_ages_0 12 rfl rfl)
theorem dX0_ages_13 : decode cX0_ages 13 = .ok (.bipush 40, 2) := dk_16 40 (dk_at dksX0_ages_0 13 rfl rfl)
theorem dX0_ages_15 : decode cX0_ages 15 = .ok (.invokestatic 58, 3) := dk_184 0 58 (dk_at dksX0_ages_0 15 rfl rfl)
theorem dX0_ages_18 : decode cX0_ages 18 = .ok (.ifCond .ne 5, 3) := dk_154 0 5 (dk_at dksX0_ages_0 18 rfl rfl)
theorem dX0_ages_21 : decode cX0_ages 21 = .ok (.iconst (-1), 1) := dk_2 (dk_at dksX0_ages_0 21 rfl rfl)
theorem dX0_ages_22 : decode cX0_ages 22 = .ok (.ireturn, 1) := dk_172 (dk_at dksX0_ages_0 22 rfl rfl)
theorem dX0_ages_23 : decode cX0_ages 23 = .ok (.aload_n 0, 1) := dk_42 (dk_at dksX0_ages_0 23 rfl rfl)
theorem dX0_ages_24 : decode cX0_ages 24 = .ok (.getfield 21, 3) := dk_180 0 21 (dk_at dksX0_ages_1 0 rfl rfl)
theorem dX0_ages_27 : decode cX0_ages 27 = .ok (.invokevirtual 165, 3) := dk_182 0 165 (dk_at dksX0_ages_1 3 rfl rfl)
theorem dX0_ages_30 : decode cX0_ages 30 = .ok (.aload_n 0, 1) := dk_42 (dk_at dksX0_ages_1 6 rfl rfl)
theorem dX0_ages_31 : decode cX0_ages 31 = .ok (.getfield 21, 3) := dk_180 0 21 (dk_at dksX0_ages_1 7 rfl rfl)
theorem dX0_ages_34 : decode cX0_ages 34 = .ok (.getfield 65, 3) := dk_180 0 65 (dk_at dksX0_ages_1 10 rfl rfl)
theorem dX0_ages_37 : decode cX0_ages 37 = .ok (.iconst 1, 1) := dk_4 (dk_at dksX0_ages_1 13 rfl rfl)
theorem dX0_ages_38 : decode cX0_ages 38 = .ok (.iload_n 1, 1) := dk_27 (dk_at dksX0_ages_1 14 rfl rfl)
theorem dX0_ages_39 : decode cX0_ages 39 = .ok (.iconst 2, 1) := dk_5 (dk_at dksX0_ages_1 15 rfl rfl)
theorem dX0_ages_40 : decode cX0_ages 40 = .ok (.imul, 1) := dk_104 (dk_at dksX0_ages_1 16 rfl rfl)
theorem dX0_ages_41 : decode cX0_ages 41 = .ok (.sipush 263, 3) := dk_17 1 7 (dk_at dksX0_ages_1 17 rfl rfl)
theorem dX0_ages_44 : decode cX0_ages 44 = .ok (.iadd, 1) := dk_96 (dk_at dksX0_ages_1 20 rfl rfl)
theorem dX0_ages_45 : decode cX0_ages 45 = .ok (.iastore, 1) := dk_79 (dk_at dksX0_ages_1 21 rfl rfl)
theorem dX0_ages_46 : decode cX0_ages 46 = .ok (.iconst 0, 1) := dk_3 (dk_at dksX0_ages_1 22 rfl rfl)
theorem dX0_ages_47 : decode cX0_ages 47 = .ok (.istore_n 3, 1) := dk_62 (dk_at dksX0_ages_1 23 rfl rfl)
theorem dX0_ages_48 : decode cX0_ages 48 = .ok (.iconst 0, 1) := dk_3 (dk_at dksX0_ages_2 0 rfl rfl)
theorem dX0_ages_49 : decode cX0_ages 49 = .ok (.istore 4, 2) := dk_54 4 (dk_at dksX0_ages_2 1 rfl rfl)
theorem dX0_ages_51 : decode cX0_ages 51 = .ok (.iload 4, 2) := dk_21 4 (dk_at dksX0_ages_2 3 rfl rfl)
theorem dX0_ages_53 : decode cX0_ages 53 = .ok (.iload_n 2, 1) := dk_28 (dk_at dksX0_ages_2 5 rfl rfl)
theorem dX0_ages_54 : decode cX0_ages 54 = .ok (.if_icmp .ge 80, 3) := dk_162 0 80 (dk_at dksX0_ages_2 6 rfl rfl)
theorem dX0_ages_57 : decode cX0_ages 57 = .ok (.aload_n 0, 1) := dk_42 (dk_at dksX0_ages_2 9 rfl rfl)
theorem dX0_ages_58 : decode cX0_ages 58 = .ok (.getfield 21, 3) := dk_180 0 21 (dk_at dksX0_ages_2 10 rfl rfl)
theorem dX0_ages_61 : decode cX0_ages 61 = .ok (.getfield 65, 3) := dk_180 0 65 (dk_at dksX0_ages_2 13 rfl rfl)
theorem dX0_ages_64 : decode cX0_ages 64 = .ok (.iconst 1, 1) := dk_4 (dk_at dksX0_ages_2 16 rfl rfl)
theorem dX0_ages_65 : decode cX0_ages 65 = .ok (.iaload, 1) := dk_46 (dk_at dksX0_ages_2 17 rfl rfl)
theorem dX0_ages_66 : decode cX0_ages 66 = .ok (.istore 5, 2) := dk_54 5 (dk_at dksX0_ages_2 18 rfl rfl)
theorem dX0_ages_68 : decode cX0_ages 68 = .ok (.aload_n 0, 1) := dk_42 (dk_at dksX0_ages_2 20 rfl rfl)
theorem dX0_ages_69 : decode cX0_ages 69 = .ok (.getfield 21, 3) := dk_180 0 21 (dk_at dksX0_ages_2 21 rfl rfl)
theorem dX0_ages_72 : decode cX0_ages 72 = .ok (.getfield 65, 3) := dk_180 0 65 (dk_at dksX0_ages_3 0 rfl rfl)
theorem dX0_ages_75 : decode cX0_ages 75 = .ok (.iconst 2, 1) := dk_5 (dk_at dksX0_ages_3 3 rfl rfl)
theorem dX0_ages_76 : decode cX0_ages 76 = .ok (.invokestatic 147, 3) := dk_184 0 147 (dk_at dksX0_ages_3 4 rfl rfl)
theorem dX0_ages_79 : decode cX0_ages 79 = .ok (.istore 6, 2) := dk_54 6 (dk_at dksX0_ages_3 7 rfl rfl)
theorem dX0_ages_81 : decode cX0_ages 81 = .ok (.iload 5, 2) := dk_21 5 (dk_at dksX0_ages_3 9 rfl rfl)
theorem dX0_ages_83 : decode cX0_ages 83 = .ok (.bipush 6, 2) := dk_16 6 (dk_at dksX0_ages_3 11 rfl rfl)
theorem dX0_ages_85 : decode cX0_ages 85 = .ok (.irem, 1) := dk_112 (dk_at dksX0_ages_3 13 rfl rfl)
theorem dX0_ages_86 : decode cX0_ages 86 = .ok (.iconst 4, 1) := dk_7 (dk_at dksX0_ages_3 14 rfl rfl)
theorem dX0_ages_87 : decode cX0_ages 87 = .ok (.if_icmp .ge 12, 3) := dk_162 0 12 (dk_at dksX0_ages_3 15 rfl rfl)
theorem dX0_ages_90 : decode cX0_ages 90 = .ok (.aload_n 0, 1) := dk_42 (dk_at dksX0_ages_3 18 rfl rfl)
theorem dX0_ages_91 : decode cX0_ages 91 = .ok (.iload 5, 2) := dk_21 5 (dk_at dksX0_ages_3 19 rfl rfl)
theorem dX0_ages_93 : decode cX0_ages 93 = .ok (.invokevirtual 256, 3) := dk_182 1 0 (dk_at dksX0_ages_3 21 rfl rfl)
theorem dX0_ages_96 : decode cX0_ages 96 = .ok (.goto 32, 3) := dk_167 0 32 (dk_at dksX0_ages_4 0 rfl rfl)
theorem dX0_ages_99 : decode cX0_ages 99 = .ok (.aload_n 0, 1) := dk_42 (dk_at dksX0_ages_4 3 rfl rfl)
theorem dX0_ages_100 : decode cX0_ages 100 = .ok (.getfield 21, 3) := dk_180 0 21 (dk_at dksX0_ages_4 4 rfl rfl)
theorem dX0_ages_103 : decode cX0_ages 103 = .ok (.getfield 65, 3) := dk_180 0 65 (dk_at dksX0_ages_4 7 rfl rfl)
theorem dX0_ages_106 : decode cX0_ages 106 = .ok (.iconst 0, 1) := dk_3 (dk_at dksX0_ages_4 10 rfl rfl)
theorem dX0_ages_107 : decode cX0_ages 107 = .ok (.iaload, 1) := dk_46 (dk_at dksX0_ages_4 11 rfl rfl)
theorem dX0_ages_108 : decode cX0_ages 108 = .ok (.sipush 9999, 3) := dk_17 39 15 (dk_at dksX0_ages_4 12 rfl rfl)
theorem dX0_ages_111 : decode cX0_ages 111 = .ok (.if_icmp .ge 17, 3) := dk_162 0 17 (dk_at dksX0_ages_4 15 rfl rfl)
theorem dX0_ages_114 : decode cX0_ages 114 = .ok (.iload_n 3, 1) := dk_29 (dk_at dksX0_ages_4 18 rfl rfl)
theorem dX0_ages_115 : decode cX0_ages 115 = .ok (.aload_n 0, 1) := dk_42 (dk_at dksX0_ages_4 19 rfl rfl)
theorem dX0_ages_116 : decode cX0_ages 116 = .ok (.aload_n 0, 1) := dk_42 (dk_at dksX0_ages_4 20 rfl rfl)
theorem dX0_ages_117 : decode cX0_ages 117 = .ok (.getfield 21, 3) := dk_180 0 21 (dk_at dksX0_ages_4 21 rfl rfl)
theorem dX0_ages_120 : decode cX0_ages 120 = .ok (.getfield 65, 3) := dk_180 0 65 (dk_at dksX0_ages_5 0 rfl rfl)
theorem dX0_ages_123 : decode cX0_ages 123 = .ok (.invokevirtual 196, 3) := dk_182 0 196 (dk_at dksX0_ages_5 3 rfl rfl)
theorem dX0_ages_126 : decode cX0_ages 126 = .ok (.iadd, 1) := dk_96 (dk_at dksX0_ages_5 6 rfl rfl)
theorem dX0_ages_127 : decode cX0_ages 127 = .ok (.istore_n 3, 1) := dk_62 (dk_at dksX0_ages_5 7 rfl rfl)
theorem dX0_ages_128 : decode cX0_ages 128 = .ok (.iinc 4 1, 3) := dk_132 4 1 (dk_at dksX0_ages_5 8 rfl rfl)
theorem dX0_ages_131 : decode cX0_ages 131 = .ok (.goto (-80), 3) := dk_167 255 176 (dk_at dksX0_ages_5 11 rfl rfl)
theorem dX0_ages_134 : decode cX0_ages 134 = .ok (.aload_n 0, 1) := dk_42 (dk_at dksX0_ages_5 14 rfl rfl)
theorem dX0_ages_135 : decode cX0_ages 135 = .ok (.getfield 21, 3) := dk_180 0 21 (dk_at dksX0_ages_5 15 rfl rfl)
theorem dX0_ages_138 : decode cX0_ages 138 = .ok (.getfield 65, 3) := dk_180 0 65 (dk_at dksX0_ages_5 18 rfl rfl)
theorem dX0_ages_141 : decode cX0_ages 141 = .ok (.iconst 0, 1) := dk_3 (dk_at dksX0_ages_5 21 rfl rfl)
theorem dX0_ages_142 : decode cX0_ages 142 = .ok (.iaload, 1) := dk_46 (dk_at dksX0_ages_5 22 rfl rfl)
theorem dX0_ages_143 : decode cX0_ages 143 = .ok (.ireturn, 1) := dk_172 (dk_at dksX0_ages_5 23 rfl rfl)
abbrev cX0_befalls : ByteArray := prog_1_method_39_code
def yX0_befalls : MethodName := ⟨RX0, "befalls", "(I)V"⟩
def dkwX0_befalls_5 : List UInt8 := [180, 0, 65, 29, 28, 182, 0, 168, 54, 4, 177]
abbrev dktX0_befalls_5 : List UInt8 := dkwX0_befalls_5 ++ []
def dkwX0_befalls_4 : List UInt8 := [153, 0, 34, 42, 28, 182, 0, 183, 167, 0, 26, 42, 29, 182, 0, 162, 153, 0, 18, 42, 42, 180, 0, 21]
abbrev dktX0_befalls_4 : List UInt8 := dkwX0_befalls_4 ++ dktX0_befalls_5
def dkwX0_befalls_3 : List UInt8 := [42, 28, 4, 182, 0, 176, 153, 0, 51, 42, 28, 182, 0, 180, 167, 0, 43, 42, 28, 3, 182, 0, 176]
abbrev dktX0_befalls_3 : List UInt8 := dkwX0_befalls_3 ++ dktX0_befalls_4
def dkwX0_befalls_2 : List UInt8 := [171, 0, 0, 0, 59, 0, 0, 0, 2, 0, 0, 0, 2, 0, 0, 0, 25, 0, 0, 0, 3, 0, 0, 0, 42]
abbrev dktX0_befalls_2 : List UInt8 := dkwX0_befalls_2 ++ dktX0_befalls_3
def dkwX0_befalls_1 : List UInt8 := [27, 42, 180, 0, 21, 180, 0, 62, 3, 46, 112, 62, 2, 54, 4, 27, 16, 6, 112]
abbrev dktX0_befalls_1 : List UInt8 := dkwX0_befalls_1 ++ dktX0_befalls_2
def dkwX0_befalls_0 : List UInt8 := [27, 16, 6, 108, 16, 30, 112, 61, 42, 180, 0, 21, 180, 0, 62, 3, 46, 154, 0, 7, 2, 167, 0, 14]
abbrev dktX0_befalls_0 : List UInt8 := dkwX0_befalls_0 ++ dktX0_befalls_1
theorem dksX0_befalls_0 : cX0_befalls.data.toList.drop 0 = dktX0_befalls_0 := by decide +kernel
theorem dksX0_befalls_1 : cX0_befalls.data.toList.drop 24 = dktX0_befalls_1 := dk_seg dksX0_befalls_0 24 rfl rfl
theorem dksX0_befalls_2 : cX0_befalls.data.toList.drop 43 = dktX0_befalls_2 := dk_seg dksX0_befalls_1 19 rfl rfl
theorem dksX0_befalls_3 : cX0_befalls.data.toList.drop 68 = dktX0_befalls_3 := dk_seg dksX0_befalls_2 25 rfl rfl
theorem dksX0_befalls_4 : cX0_befalls.data.toList.drop 91 = dktX0_befalls_4 := dk_seg dksX0_befalls_3 23 rfl rfl
theorem dksX0_befalls_5 : cX0_befalls.data.toList.drop 115 = dktX0_befalls_5 := dk_seg dksX0_befalls_4 24 rfl rfl
theorem dX0_befalls_0 : decode cX0_befalls 0 = .ok (.iload_n 1, 1) := dk_27 (dk_at dksX0_befalls_0 0 rfl rfl)
theorem dX0_befalls_1 : decode cX0_befalls 1 = .ok (.bipush 6, 2) := dk_16 6 (dk_at dksX0_befalls_0 1 rfl rfl)
theorem dX0_befalls_3 : decode cX0_befalls 3 = .ok (.idiv, 1) := dk_108 (dk_at dksX0_befalls_0 3 rfl rfl)
theorem dX0_befalls_4 : decode cX0_befalls 4 = .ok (.bipush 30, 2) := dk_16 30 (dk_at dksX0_befalls_0 4 rfl rfl)
theorem dX0_befalls_6 : decode cX0_befalls 6 = .ok (.irem, 1) := dk_112 (dk_at dksX0_befalls_0 6 rfl rfl)
theorem dX0_befalls_7 : decode cX0_befalls 7 = .ok (.istore_n 2, 1) := dk_61 (dk_at dksX0_befalls_0 7 rfl rfl)
theorem dX0_befalls_8 : decode cX0_befalls 8 = .ok (.aload_n 0, 1) := dk_42 (dk_at dksX0_befalls_0 8 rfl rfl)
theorem dX0_befalls_9 : decode cX0_befalls 9 = .ok (.getfield 21, 3) := dk_180 0 21 (dk_at dksX0_befalls_0 9 rfl rfl)
theorem dX0_befalls_12 : decode cX0_befalls 12 = .ok (.getfield 62, 3) := dk_180 0 62 (dk_at dksX0_befalls_0 12 rfl rfl)
theorem dX0_befalls_15 : decode cX0_befalls 15 = .ok (.iconst 0, 1) := dk_3 (dk_at dksX0_befalls_0 15 rfl rfl)
theorem dX0_befalls_16 : decode cX0_befalls 16 = .ok (.iaload, 1) := dk_46 (dk_at dksX0_befalls_0 16 rfl rfl)
theorem dX0_befalls_17 : decode cX0_befalls 17 = .ok (.ifCond .ne 7, 3) := dk_154 0 7 (dk_at dksX0_befalls_0 17 rfl rfl)
theorem dX0_befalls_20 : decode cX0_befalls 20 = .ok (.iconst (-1), 1) := dk_2 (dk_at dksX0_befalls_0 20 rfl rfl)
theorem dX0_befalls_21 : decode cX0_befalls 21 = .ok (.goto 14, 3) := dk_167 0 14 (dk_at dksX0_befalls_0 21 rfl rfl)
theorem dX0_befalls_24 : decode cX0_befalls 24 = .ok (.iload_n 1, 1) := dk_27 (dk_at dksX0_befalls_1 0 rfl rfl)
theorem dX0_befalls_25 : decode cX0_befalls 25 = .ok (.aload_n 0, 1) := dk_42 (dk_at dksX0_befalls_1 1 rfl rfl)
theorem dX0_befalls_26 : decode cX0_befalls 26 = .ok (.getfield 21, 3) := dk_180 0 21 (dk_at dksX0_befalls_1 2 rfl rfl)
theorem dX0_befalls_29 : decode cX0_befalls 29 = .ok (.getfield 62, 3) := dk_180 0 62 (dk_at dksX0_befalls_1 5 rfl rfl)
theorem dX0_befalls_32 : decode cX0_befalls 32 = .ok (.iconst 0, 1) := dk_3 (dk_at dksX0_befalls_1 8 rfl rfl)
theorem dX0_befalls_33 : decode cX0_befalls 33 = .ok (.iaload, 1) := dk_46 (dk_at dksX0_befalls_1 9 rfl rfl)
theorem dX0_befalls_34 : decode cX0_befalls 34 = .ok (.irem, 1) := dk_112 (dk_at dksX0_befalls_1 10 rfl rfl)
theorem dX0_befalls_35 : decode cX0_befalls 35 = .ok (.istore_n 3, 1) := dk_62 (dk_at dksX0_befalls_1 11 rfl rfl)
theorem dX0_befalls_36 : decode cX0_befalls 36 = .ok (.iconst (-1), 1) := dk_2 (dk_at dksX0_befalls_1 12 rfl rfl)
theorem dX0_befalls_37 : decode cX0_befalls 37 = .ok (.istore 4, 2) := dk_54 4 (dk_at dksX0_befalls_1 13 rfl rfl)
theorem dX0_befalls_39 : decode cX0_befalls 39 = .ok (.iload_n 1, 1) := dk_27 (dk_at dksX0_befalls_1 15 rfl rfl)
theorem dX0_befalls_40 : decode cX0_befalls 40 = .ok (.bipush 6, 2) := dk_16 6 (dk_at dksX0_befalls_1 16 rfl rfl)
theorem dX0_befalls_42 : decode cX0_befalls 42 = .ok (.irem, 1) := dk_112 (dk_at dksX0_befalls_1 18 rfl rfl)
theorem dX0_befalls_43 : decode cX0_befalls 43 = .ok (.lookupswitch 59 #[(2, 25), (3, 42)], 25) := by decide +kernel
theorem dX0_befalls_68 : decode cX0_befalls 68 = .ok (.aload_n 0, 1) := dk_42 (dk_at dksX0_befalls_3 0 rfl rfl)
theorem dX0_befalls_69 : decode cX0_befalls 69 = .ok (.iload_n 2, 1) := dk_28 (dk_at dksX0_befalls_3 1 rfl rfl)
theorem dX0_befalls_70 : decode cX0_befalls 70 = .ok (.iconst 1, 1) := dk_4 (dk_at dksX0_befalls_3 2 rfl rfl)
theorem dX0_befalls_71 : decode cX0_befalls 71 = .ok (.invokevirtual 176, 3) := dk_182 0 176 (dk_at dksX0_befalls_3 3 rfl rfl)
theorem dX0_befalls_74 : decode cX0_befalls 74 = .ok (.ifCond .eq 51, 3) := dk_153 0 51 (dk_at dksX0_befalls_3 6 rfl rfl)
theorem dX0_befalls_77 : decode cX0_befalls 77 = .ok (.aload_n 0, 1) := dk_42 (dk_at dksX0_befalls_3 9 rfl rfl)
theorem dX0_befalls_78 : decode cX0_befalls 78 = .ok (.iload_n 2, 1) := dk_28 (dk_at dksX0_befalls_3 10 rfl rfl)
theorem dX0_befalls_79 : decode cX0_befalls 79 = .ok (.invokevirtual 180, 3) := dk_182 0 180 (dk_at dksX0_befalls_3 11 rfl rfl)
theorem dX0_befalls_82 : decode cX0_befalls 82 = .ok (.goto 43, 3) := dk_167 0 43 (dk_at dksX0_befalls_3 14 rfl rfl)
theorem dX0_befalls_85 : decode cX0_befalls 85 = .ok (.aload_n 0, 1) := dk_42 (dk_at dksX0_befalls_3 17 rfl rfl)
theorem dX0_befalls_86 : decode cX0_befalls 86 = .ok (.iload_n 2, 1) := dk_28 (dk_at dksX0_befalls_3 18 rfl rfl)
theorem dX0_befalls_87 : decode cX0_befalls 87 = .ok (.iconst 0, 1) := dk_3 (dk_at dksX0_befalls_3 19 rfl rfl)
theorem dX0_befalls_88 : decode cX0_befalls 88 = .ok (.invokevirtual 176, 3) := dk_182 0 176 (dk_at dksX0_befalls_3 20 rfl rfl)
theorem dX0_befalls_91 : decode cX0_befalls 91 = .ok (.ifCond .eq 34, 3) := dk_153 0 34 (dk_at dksX0_befalls_4 0 rfl rfl)
theorem dX0_befalls_94 : decode cX0_befalls 94 = .ok (.aload_n 0, 1) := dk_42 (dk_at dksX0_befalls_4 3 rfl rfl)
theorem dX0_befalls_95 : decode cX0_befalls 95 = .ok (.iload_n 2, 1) := dk_28 (dk_at dksX0_befalls_4 4 rfl rfl)
theorem dX0_befalls_96 : decode cX0_befalls 96 = .ok (.invokevirtual 183, 3) := dk_182 0 183 (dk_at dksX0_befalls_4 5 rfl rfl)
theorem dX0_befalls_99 : decode cX0_befalls 99 = .ok (.goto 26, 3) := dk_167 0 26 (dk_at dksX0_befalls_4 8 rfl rfl)
theorem dX0_befalls_102 : decode cX0_befalls 102 = .ok (.aload_n 0, 1) := dk_42 (dk_at dksX0_befalls_4 11 rfl rfl)
theorem dX0_befalls_103 : decode cX0_befalls 103 = .ok (.iload_n 3, 1) := dk_29 (dk_at dksX0_befalls_4 12 rfl rfl)
theorem dX0_befalls_104 : decode cX0_befalls 104 = .ok (.invokevirtual 162, 3) := dk_182 0 162 (dk_at dksX0_befalls_4 13 rfl rfl)
theorem dX0_befalls_107 : decode cX0_befalls 107 = .ok (.ifCond .eq 18, 3) := dk_153 0 18 (dk_at dksX0_befalls_4 16 rfl rfl)
theorem dX0_befalls_110 : decode cX0_befalls 110 = .ok (.aload_n 0, 1) := dk_42 (dk_at dksX0_befalls_4 19 rfl rfl)
theorem dX0_befalls_111 : decode cX0_befalls 111 = .ok (.aload_n 0, 1) := dk_42 (dk_at dksX0_befalls_4 20 rfl rfl)
theorem dX0_befalls_112 : decode cX0_befalls 112 = .ok (.getfield 21, 3) := dk_180 0 21 (dk_at dksX0_befalls_4 21 rfl rfl)
theorem dX0_befalls_115 : decode cX0_befalls 115 = .ok (.getfield 65, 3) := dk_180 0 65 (dk_at dksX0_befalls_5 0 rfl rfl)
theorem dX0_befalls_118 : decode cX0_befalls 118 = .ok (.iload_n 3, 1) := dk_29 (dk_at dksX0_befalls_5 3 rfl rfl)
theorem dX0_befalls_119 : decode cX0_befalls 119 = .ok (.iload_n 2, 1) := dk_28 (dk_at dksX0_befalls_5 4 rfl rfl)
theorem dX0_befalls_120 : decode cX0_befalls 120 = .ok (.invokevirtual 168, 3) := dk_182 0 168 (dk_at dksX0_befalls_5 5 rfl rfl)
theorem dX0_befalls_123 : decode cX0_befalls 123 = .ok (.istore 4, 2) := dk_54 4 (dk_at dksX0_befalls_5 8 rfl rfl)
theorem dX0_befalls_125 : decode cX0_befalls 125 = .ok (.return_, 1) := dk_177 (dk_at dksX0_befalls_5 10 rfl rfl)
abbrev cX0_undo : ByteArray := prog_1_method_41_code
def yX0_undo : MethodName := ⟨RX0, "undo", "()I"⟩
def dkwX0_undo_2 : List UInt8 := [180, 0, 65, 184, 1, 6, 42, 180, 0, 21, 180, 0, 62, 6, 46, 172]
abbrev dktX0_undo_2 : List UInt8 := dkwX0_undo_2 ++ []
def dkwX0_undo_1 : List UInt8 := [4, 100, 79, 42, 180, 0, 21, 180, 1, 3, 42, 180, 0, 21, 180, 0, 62, 6, 46, 50, 42, 180, 0, 21]
abbrev dktX0_undo_1 : List UInt8 := dkwX0_undo_1 ++ dktX0_undo_2
def dkwX0_undo_0 : List UInt8 := [42, 180, 0, 21, 180, 0, 62, 6, 46, 154, 0, 5, 2, 172, 42, 180, 0, 21, 180, 0, 62, 6, 92, 46]
abbrev dktX0_undo_0 : List UInt8 := dkwX0_undo_0 ++ dktX0_undo_1
theorem dksX0_undo_0 : cX0_undo.data.toList.drop 0 = dktX0_undo_0 := by decide +kernel
theorem dksX0_undo_1 : cX0_undo.data.toList.drop 24 = dktX0_undo_1 := dk_seg dksX0_undo_0 24 rfl rfl
theorem dksX0_undo_2 : cX0_undo.data.toList.drop 48 = dktX0_undo_2 := dk_seg dksX0_undo_1 24 rfl rfl
theorem dX0_undo_0 : decode cX0_undo 0 = .ok (.aload_n 0, 1) := dk_42 (dk_at dksX0_undo_0 0 rfl rfl)
theorem dX0_undo_1 : decode cX0_undo 1 = .ok (.getfield 21, 3) := dk_180 0 21 (dk_at dksX0_undo_0 1 rfl rfl)
theorem dX0_undo_4 : decode cX0_undo 4 = .ok (.getfield 62, 3) := dk_180 0 62 (dk_at dksX0_undo_0 4 rfl rfl)
theorem dX0_undo_7 : decode cX0_undo 7 = .ok (.iconst 3, 1) := dk_6 (dk_at dksX0_undo_0 7 rfl rfl)
theorem dX0_undo_8 : decode cX0_undo 8 = .ok (.iaload, 1) := dk_46 (dk_at dksX0_undo_0 8 rfl rfl)
theorem dX0_undo_9 : decode cX0_undo 9 = .ok (.ifCond .ne 5, 3) := dk_154 0 5 (dk_at dksX0_undo_0 9 rfl rfl)
theorem dX0_undo_12 : decode cX0_undo 12 = .ok (.iconst (-1), 1) := dk_2 (dk_at dksX0_undo_0 12 rfl rfl)
theorem dX0_undo_13 : decode cX0_undo 13 = .ok (.ireturn, 1) := dk_172 (dk_at dksX0_undo_0 13 rfl rfl)
theorem dX0_undo_14 : decode cX0_undo 14 = .ok (.aload_n 0, 1) := dk_42 (dk_at dksX0_undo_0 14 rfl rfl)
theorem dX0_undo_15 : decode cX0_undo 15 = .ok (.getfield 21, 3) := dk_180 0 21 (dk_at dksX0_undo_0 15 rfl rfl)
theorem dX0_undo_18 : decode cX0_undo 18 = .ok (.getfield 62, 3) := dk_180 0 62 (dk_at dksX0_undo_0 18 rfl rfl)
theorem dX0_undo_21 : decode cX0_undo 21 = .ok (.iconst 3, 1) := dk_6 (dk_at dksX0_undo_0 21 rfl rfl)
theorem dX0_undo_22 : decode cX0_undo 22 = .ok (.dup2, 1) := dk_92 (dk_at dksX0_undo_0 22 rfl rfl)
theorem dX0_undo_23 : decode cX0_undo 23 = .ok (.iaload, 1) := dk_46 (dk_at dksX0_undo_0 23 rfl rfl)
theorem dX0_undo_24 : decode cX0_undo 24 = .ok (.iconst 1, 1) := dk_4 (dk_at dksX0_undo_1 0 rfl rfl)
theorem dX0_undo_25 : decode cX0_undo 25 = .ok (.isub, 1) := dk_100 (dk_at dksX0_undo_1 1 rfl rfl)
theorem dX0_undo_26 : decode cX0_undo 26 = .ok (.iastore, 1) := dk_79 (dk_at dksX0_undo_1 2 rfl rfl)
theorem dX0_undo_27 : decode cX0_undo 27 = .ok (.aload_n 0, 1) := dk_42 (dk_at dksX0_undo_1 3 rfl rfl)
theorem dX0_undo_28 : decode cX0_undo 28 = .ok (.getfield 21, 3) := dk_180 0 21 (dk_at dksX0_undo_1 4 rfl rfl)
theorem dX0_undo_31 : decode cX0_undo 31 = .ok (.getfield 259, 3) := dk_180 1 3 (dk_at dksX0_undo_1 7 rfl rfl)
theorem dX0_undo_34 : decode cX0_undo 34 = .ok (.aload_n 0, 1) := dk_42 (dk_at dksX0_undo_1 10 rfl rfl)
theorem dX0_undo_35 : decode cX0_undo 35 = .ok (.getfield 21, 3) := dk_180 0 21 (dk_at dksX0_undo_1 11 rfl rfl)
theorem dX0_undo_38 : decode cX0_undo 38 = .ok (.getfield 62, 3) := dk_180 0 62 (dk_at dksX0_undo_1 14 rfl rfl)
theorem dX0_undo_41 : decode cX0_undo 41 = .ok (.iconst 3, 1) := dk_6 (dk_at dksX0_undo_1 17 rfl rfl)
theorem dX0_undo_42 : decode cX0_undo 42 = .ok (.iaload, 1) := dk_46 (dk_at dksX0_undo_1 18 rfl rfl)
theorem dX0_undo_43 : decode cX0_undo 43 = .ok (.aaload, 1) := dk_50 (dk_at dksX0_undo_1 19 rfl rfl)
theorem dX0_undo_44 : decode cX0_undo 44 = .ok (.aload_n 0, 1) := dk_42 (dk_at dksX0_undo_1 20 rfl rfl)
theorem dX0_undo_45 : decode cX0_undo 45 = .ok (.getfield 21, 3) := dk_180 0 21 (dk_at dksX0_undo_1 21 rfl rfl)
theorem dX0_undo_48 : decode cX0_undo 48 = .ok (.getfield 65, 3) := dk_180 0 65 (dk_at dksX0_undo_2 0 rfl rfl)
theorem dX0_undo_51 : decode cX0_undo 51 = .ok (.invokestatic 262, 3) := dk_184 1 6 (dk_at dksX0_undo_2 3 rfl rfl)
theorem dX0_undo_54 : decode cX0_undo 54 = .ok (.aload_n 0, 1) := dk_42 (dk_at dksX0_undo_2 6 rfl rfl)
theorem dX0_undo_55 : decode cX0_undo 55 = .ok (.getfield 21, 3) := dk_180 0 21 (dk_at dksX0_undo_2 7 rfl rfl)
theorem dX0_undo_58 : decode cX0_undo 58 = .ok (.getfield 62, 3) := dk_180 0 62 (dk_at dksX0_undo_2 10 rfl rfl)
theorem dX0_undo_61 : decode cX0_undo 61 = .ok (.iconst 3, 1) := dk_6 (dk_at dksX0_undo_2 13 rfl rfl)
theorem dX0_undo_62 : decode cX0_undo 62 = .ok (.iaload, 1) := dk_46 (dk_at dksX0_undo_2 14 rfl rfl)
theorem dX0_undo_63 : decode cX0_undo 63 = .ok (.ireturn, 1) := dk_172 (dk_at dksX0_undo_2 15 rfl rfl)
abbrev cX0_of : ByteArray := prog_1_method_42_code
def yX0_of : MethodName := ⟨RX0, "of", "(II)I"⟩
def dkwX0_of_2 : List UInt8 := [180, 0, 79, 27, 46, 167, 0, 15, 42, 180, 0, 21, 180, 0, 65, 16, 62, 27, 96, 46, 172]
abbrev dktX0_of_2 : List UInt8 := dkwX0_of_2 ++ []
def dkwX0_of_1 : List UInt8 := [154, 0, 15, 42, 180, 0, 21, 180, 0, 76, 27, 46, 167, 0, 32, 28, 4, 160, 0, 15, 42, 180, 0, 21]
abbrev dktX0_of_1 : List UInt8 := dkwX0_of_1 ++ dktX0_of_2
def dkwX0_of_0 : List UInt8 := [42, 27, 182, 0, 159, 153, 0, 12, 28, 3, 5, 184, 0, 58, 154, 0, 8, 16, 254, 167, 0, 48, 28]
abbrev dktX0_of_0 : List UInt8 := dkwX0_of_0 ++ dktX0_of_1
theorem dksX0_of_0 : cX0_of.data.toList.drop 0 = dktX0_of_0 := by decide +kernel
theorem dksX0_of_1 : cX0_of.data.toList.drop 23 = dktX0_of_1 := dk_seg dksX0_of_0 23 rfl rfl
theorem dksX0_of_2 : cX0_of.data.toList.drop 47 = dktX0_of_2 := dk_seg dksX0_of_1 24 rfl rfl
theorem dX0_of_0 : decode cX0_of 0 = .ok (.aload_n 0, 1) := dk_42 (dk_at dksX0_of_0 0 rfl rfl)
theorem dX0_of_1 : decode cX0_of 1 = .ok (.iload_n 1, 1) := dk_27 (dk_at dksX0_of_0 1 rfl rfl)
theorem dX0_of_2 : decode cX0_of 2 = .ok (.invokevirtual 159, 3) := dk_182 0 159 (dk_at dksX0_of_0 2 rfl rfl)
theorem dX0_of_5 : decode cX0_of 5 = .ok (.ifCond .eq 12, 3) := dk_153 0 12 (dk_at dksX0_of_0 5 rfl rfl)
theorem dX0_of_8 : decode cX0_of 8 = .ok (.iload_n 2, 1) := dk_28 (dk_at dksX0_of_0 8 rfl rfl)
theorem dX0_of_9 : decode cX0_of 9 = .ok (.iconst 0, 1) := dk_3 (dk_at dksX0_of_0 9 rfl rfl)
theorem dX0_of_10 : decode cX0_of 10 = .ok (.iconst 2, 1) := dk_5 (dk_at dksX0_of_0 10 rfl rfl)
theorem dX0_of_11 : decode cX0_of 11 = .ok (.invokestatic 58, 3) := dk_184 0 58 (dk_at dksX0_of_0 11 rfl rfl)
theorem dX0_of_14 : decode cX0_of 14 = .ok (.ifCond .ne 8, 3) := dk_154 0 8 (dk_at dksX0_of_0 14 rfl rfl)
theorem dX0_of_17 : decode cX0_of 17 = .ok (.bipush (-2), 2) := dk_16 254 (dk_at dksX0_of_0 17 rfl rfl)
theorem dX0_of_19 : decode cX0_of 19 = .ok (.goto 48, 3) := dk_167 0 48 (dk_at dksX0_of_0 19 rfl rfl)
theorem dX0_of_22 : decode cX0_of 22 = .ok (.iload_n 2, 1) := dk_28 (dk_at dksX0_of_0 22 rfl rfl)
theorem dX0_of_23 : decode cX0_of 23 = .ok (.ifCond .ne 15, 3) := dk_154 0 15 (dk_at dksX0_of_1 0 rfl rfl)
theorem dX0_of_26 : decode cX0_of 26 = .ok (.aload_n 0, 1) := dk_42 (dk_at dksX0_of_1 3 rfl rfl)
theorem dX0_of_27 : decode cX0_of 27 = .ok (.getfield 21, 3) := dk_180 0 21 (dk_at dksX0_of_1 4 rfl rfl)
theorem dX0_of_30 : decode cX0_of 30 = .ok (.getfield 76, 3) := dk_180 0 76 (dk_at dksX0_of_1 7 rfl rfl)
theorem dX0_of_33 : decode cX0_of 33 = .ok (.iload_n 1, 1) := dk_27 (dk_at dksX0_of_1 10 rfl rfl)
theorem dX0_of_34 : decode cX0_of 34 = .ok (.iaload, 1) := dk_46 (dk_at dksX0_of_1 11 rfl rfl)
theorem dX0_of_35 : decode cX0_of 35 = .ok (.goto 32, 3) := dk_167 0 32 (dk_at dksX0_of_1 12 rfl rfl)
theorem dX0_of_38 : decode cX0_of 38 = .ok (.iload_n 2, 1) := dk_28 (dk_at dksX0_of_1 15 rfl rfl)
theorem dX0_of_39 : decode cX0_of 39 = .ok (.iconst 1, 1) := dk_4 (dk_at dksX0_of_1 16 rfl rfl)
theorem dX0_of_40 : decode cX0_of 40 = .ok (.if_icmp .ne 15, 3) := dk_160 0 15 (dk_at dksX0_of_1 17 rfl rfl)
theorem dX0_of_43 : decode cX0_of 43 = .ok (.aload_n 0, 1) := dk_42 (dk_at dksX0_of_1 20 rfl rfl)
theorem dX0_of_44 : decode cX0_of 44 = .ok (.getfield 21, 3) := dk_180 0 21 (dk_at dksX0_of_1 21 rfl rfl)
theorem dX0_of_47 : decode cX0_of 47 = .ok (.getfield 79, 3) := dk_180 0 79 (dk_at dksX0_of_2 0 rfl rfl)
theorem dX0_of_50 : decode cX0_of 50 = .ok (.iload_n 1, 1) := dk_27 (dk_at dksX0_of_2 3 rfl rfl)
theorem dX0_of_51 : decode cX0_of 51 = .ok (.iaload, 1) := dk_46 (dk_at dksX0_of_2 4 rfl rfl)
theorem dX0_of_52 : decode cX0_of 52 = .ok (.goto 15, 3) := dk_167 0 15 (dk_at dksX0_of_2 5 rfl rfl)
theorem dX0_of_55 : decode cX0_of 55 = .ok (.aload_n 0, 1) := dk_42 (dk_at dksX0_of_2 8 rfl rfl)
theorem dX0_of_56 : decode cX0_of 56 = .ok (.getfield 21, 3) := dk_180 0 21 (dk_at dksX0_of_2 9 rfl rfl)
theorem dX0_of_59 : decode cX0_of 59 = .ok (.getfield 65, 3) := dk_180 0 65 (dk_at dksX0_of_2 12 rfl rfl)
theorem dX0_of_62 : decode cX0_of 62 = .ok (.bipush 62, 2) := dk_16 62 (dk_at dksX0_of_2 15 rfl rfl)
theorem dX0_of_64 : decode cX0_of 64 = .ok (.iload_n 1, 1) := dk_27 (dk_at dksX0_of_2 17 rfl rfl)
theorem dX0_of_65 : decode cX0_of 65 = .ok (.iadd, 1) := dk_96 (dk_at dksX0_of_2 18 rfl rfl)
theorem dX0_of_66 : decode cX0_of 66 = .ok (.iaload, 1) := dk_46 (dk_at dksX0_of_2 19 rfl rfl)
theorem dX0_of_67 : decode cX0_of 67 = .ok (.ireturn, 1) := dk_172 (dk_at dksX0_of_2 20 rfl rfl)
abbrev cX0_ofBar : ByteArray := prog_1_method_43_code
def yX0_ofBar : MethodName := ⟨RX0, "ofBar", "(II)I"⟩
def dkwX0_ofBar_2 : List UInt8 := [46, 167, 0, 15, 42, 42, 180, 0, 21, 180, 0, 65, 27, 182, 0, 186, 172]
abbrev dktX0_ofBar_2 : List UInt8 := dkwX0_ofBar_2 ++ []
def dkwX0_ofBar_1 : List UInt8 := [42, 27, 182, 0, 172, 167, 0, 35, 28, 4, 160, 0, 18, 42, 180, 0, 21, 180, 0, 65, 16, 32, 27, 96]
abbrev dktX0_ofBar_1 : List UInt8 := dkwX0_ofBar_1 ++ dktX0_ofBar_2
def dkwX0_ofBar_0 : List UInt8 := [27, 184, 0, 68, 153, 0, 12, 28, 3, 5, 184, 0, 58, 154, 0, 7, 2, 167, 0, 47, 28, 154, 0, 11]
abbrev dktX0_ofBar_0 : List UInt8 := dkwX0_ofBar_0 ++ dktX0_ofBar_1
theorem dksX0_ofBar_0 : cX0_ofBar.data.toList.drop 0 = dktX0_ofBar_0 := by decide +kernel
theorem dksX0_ofBar_1 : cX0_ofBar.data.toList.drop 24 = dktX0_ofBar_1 := dk_seg dksX0_ofBar_0 24 rfl rfl
theorem dksX0_ofBar_2 : cX0_ofBar.data.toList.drop 48 = dktX0_ofBar_2 := dk_seg dksX0_ofBar_1 24 rfl rfl
theorem dX0_ofBar_0 : decode cX0_ofBar 0 = .ok (.iload_n 1, 1) := dk_27 (dk_at dksX0_ofBar_0 0 rfl rfl)
theorem dX0_ofBar_1 : decode cX0_ofBar 1 = .ok (.invokestatic 68, 3) := dk_184 0 68 (dk_at dksX0_ofBar_0 1 rfl rfl)
theorem dX0_ofBar_4 : decode cX0_ofBar 4 = .ok (.ifCond .eq 12, 3) := dk_153 0 12 (dk_at dksX0_ofBar_0 4 rfl rfl)
theorem dX0_ofBar_7 : decode cX0_ofBar 7 = .ok (.iload_n 2, 1) := dk_28 (dk_at dksX0_ofBar_0 7 rfl rfl)
theorem dX0_ofBar_8 : decode cX0_ofBar 8 = .ok (.iconst 0, 1) := dk_3 (dk_at dksX0_ofBar_0 8 rfl rfl)
theorem dX0_ofBar_9 : decode cX0_ofBar 9 = .ok (.iconst 2, 1) := dk_5 (dk_at dksX0_ofBar_0 9 rfl rfl)
theorem dX0_ofBar_10 : decode cX0_ofBar 10 = .ok (.invokestatic 58, 3) := dk_184 0 58 (dk_at dksX0_ofBar_0 10 rfl rfl)
theorem dX0_ofBar_13 : decode cX0_ofBar 13 = .ok (.ifCond .ne 7, 3) := dk_154 0 7 (dk_at dksX0_ofBar_0 13 rfl rfl)
theorem dX0_ofBar_16 : decode cX0_ofBar 16 = .ok (.iconst (-1), 1) := dk_2 (dk_at dksX0_ofBar_0 16 rfl rfl)
theorem dX0_ofBar_17 : decode cX0_ofBar 17 = .ok (.goto 47, 3) := dk_167 0 47 (dk_at dksX0_ofBar_0 17 rfl rfl)
theorem dX0_ofBar_20 : decode cX0_ofBar 20 = .ok (.iload_n 2, 1) := dk_28 (dk_at dksX0_ofBar_0 20 rfl rfl)
theorem dX0_ofBar_21 : decode cX0_ofBar 21 = .ok (.ifCond .ne 11, 3) := dk_154 0 11 (dk_at dksX0_ofBar_0 21 rfl rfl)
theorem dX0_ofBar_24 : decode cX0_ofBar 24 = .ok (.aload_n 0, 1) := dk_42 (dk_at dksX0_ofBar_1 0 rfl rfl)
theorem dX0_ofBar_25 : decode cX0_ofBar 25 = .ok (.iload_n 1, 1) := dk_27 (dk_at dksX0_ofBar_1 1 rfl rfl)
theorem dX0_ofBar_26 : decode cX0_ofBar 26 = .ok (.invokevirtual 172, 3) := dk_182 0 172 (dk_at dksX0_ofBar_1 2 rfl rfl)
theorem dX0_ofBar_29 : decode cX0_ofBar 29 = .ok (.goto 35, 3) := dk_167 0 35 (dk_at dksX0_ofBar_1 5 rfl rfl)
theorem dX0_ofBar_32 : decode cX0_ofBar 32 = .ok (.iload_n 2, 1) := dk_28 (dk_at dksX0_ofBar_1 8 rfl rfl)
theorem dX0_ofBar_33 : decode cX0_ofBar 33 = .ok (.iconst 1, 1) := dk_4 (dk_at dksX0_ofBar_1 9 rfl rfl)
theorem dX0_ofBar_34 : decode cX0_ofBar 34 = .ok (.if_icmp .ne 18, 3) := dk_160 0 18 (dk_at dksX0_ofBar_1 10 rfl rfl)
theorem dX0_ofBar_37 : decode cX0_ofBar 37 = .ok (.aload_n 0, 1) := dk_42 (dk_at dksX0_ofBar_1 13 rfl rfl)
theorem dX0_ofBar_38 : decode cX0_ofBar 38 = .ok (.getfield 21, 3) := dk_180 0 21 (dk_at dksX0_ofBar_1 14 rfl rfl)
theorem dX0_ofBar_41 : decode cX0_ofBar 41 = .ok (.getfield 65, 3) := dk_180 0 65 (dk_at dksX0_ofBar_1 17 rfl rfl)
theorem dX0_ofBar_44 : decode cX0_ofBar 44 = .ok (.bipush 32, 2) := dk_16 32 (dk_at dksX0_ofBar_1 20 rfl rfl)
theorem dX0_ofBar_46 : decode cX0_ofBar 46 = .ok (.iload_n 1, 1) := dk_27 (dk_at dksX0_ofBar_1 22 rfl rfl)
theorem dX0_ofBar_47 : decode cX0_ofBar 47 = .ok (.iadd, 1) := dk_96 (dk_at dksX0_ofBar_1 23 rfl rfl)
theorem dX0_ofBar_48 : decode cX0_ofBar 48 = .ok (.iaload, 1) := dk_46 (dk_at dksX0_ofBar_2 0 rfl rfl)
theorem dX0_ofBar_49 : decode cX0_ofBar 49 = .ok (.goto 15, 3) := dk_167 0 15 (dk_at dksX0_ofBar_2 1 rfl rfl)
theorem dX0_ofBar_52 : decode cX0_ofBar 52 = .ok (.aload_n 0, 1) := dk_42 (dk_at dksX0_ofBar_2 4 rfl rfl)
theorem dX0_ofBar_53 : decode cX0_ofBar 53 = .ok (.aload_n 0, 1) := dk_42 (dk_at dksX0_ofBar_2 5 rfl rfl)
theorem dX0_ofBar_54 : decode cX0_ofBar 54 = .ok (.getfield 21, 3) := dk_180 0 21 (dk_at dksX0_ofBar_2 6 rfl rfl)
theorem dX0_ofBar_57 : decode cX0_ofBar 57 = .ok (.getfield 65, 3) := dk_180 0 65 (dk_at dksX0_ofBar_2 9 rfl rfl)
theorem dX0_ofBar_60 : decode cX0_ofBar 60 = .ok (.iload_n 1, 1) := dk_27 (dk_at dksX0_ofBar_2 12 rfl rfl)
theorem dX0_ofBar_61 : decode cX0_ofBar 61 = .ok (.invokevirtual 186, 3) := dk_182 0 186 (dk_at dksX0_ofBar_2 13 rfl rfl)
theorem dX0_ofBar_64 : decode cX0_ofBar 64 = .ok (.ireturn, 1) := dk_172 (dk_at dksX0_ofBar_2 16 rfl rfl)
abbrev cX0_catches : ByteArray := prog_1_method_44_code
def yX0_catches : MethodName := ⟨RX0, "catches", "(III)I"⟩
def dkwX0_catches_2 : List UInt8 := [2, 172]
abbrev dktX0_catches_2 : List UInt8 := dkwX0_catches_2 ++ []
def dkwX0_catches_1 : List UInt8 := [153, 0, 24, 42, 42, 182, 0, 144, 42, 180, 0, 21, 180, 0, 65, 27, 28, 29, 182, 0, 151, 167, 0, 4]
abbrev dktX0_catches_1 : List UInt8 := dkwX0_catches_1 ++ dktX0_catches_2
def dkwX0_catches_0 : List UInt8 := [42, 27, 182, 0, 159, 153, 0, 41, 28, 184, 0, 68, 153, 0, 34, 29, 4, 16, 60, 184, 0, 58]
abbrev dktX0_catches_0 : List UInt8 := dkwX0_catches_0 ++ dktX0_catches_1
theorem dksX0_catches_0 : cX0_catches.data.toList.drop 0 = dktX0_catches_0 := by decide +kernel
theorem dksX0_catches_1 : cX0_catches.data.toList.drop 22 = dktX0_catches_1 := dk_seg dksX0_catches_0 22 rfl rfl
theorem dksX0_catches_2 : cX0_catches.data.toList.drop 46 = dktX0_catches_2 := dk_seg dksX0_catches_1 24 rfl rfl
theorem dX0_catches_0 : decode cX0_catches 0 = .ok (.aload_n 0, 1) := dk_42 (dk_at dksX0_catches_0 0 rfl rfl)
theorem dX0_catches_1 : decode cX0_catches 1 = .ok (.iload_n 1, 1) := dk_27 (dk_at dksX0_catches_0 1 rfl rfl)
theorem dX0_catches_2 : decode cX0_catches 2 = .ok (.invokevirtual 159, 3) := dk_182 0 159 (dk_at dksX0_catches_0 2 rfl rfl)
theorem dX0_catches_5 : decode cX0_catches 5 = .ok (.ifCond .eq 41, 3) := dk_153 0 41 (dk_at dksX0_catches_0 5 rfl rfl)
theorem dX0_catches_8 : decode cX0_catches 8 = .ok (.iload_n 2, 1) := dk_28 (dk_at dksX0_catches_0 8 rfl rfl)
theorem dX0_catches_9 : decode cX0_catches 9 = .ok (.invokestatic 68, 3) := dk_184 0 68 (dk_at dksX0_catches_0 9 rfl rfl)
theorem dX0_catches_12 : decode cX0_catches 12 = .ok (.ifCond .eq 34, 3) := dk_153 0 34 (dk_at dksX0_catches_0 12 rfl rfl)
theorem dX0_catches_15 : decode cX0_catches 15 = .ok (.iload_n 3, 1) := dk_29 (dk_at dksX0_catches_0 15 rfl rfl)
theorem dX0_catches_16 : decode cX0_catches 16 = .ok (.iconst 1, 1) := dk_4 (dk_at dksX0_catches_0 16 rfl rfl)
theorem dX0_catches_17 : decode cX0_catches 17 = .ok (.bipush 60, 2) := dk_16 60 (dk_at dksX0_catches_0 17 rfl rfl)
theorem dX0_catches_19 : decode cX0_catches 19 = .ok (.invokestatic 58, 3) := dk_184 0 58 (dk_at dksX0_catches_0 19 rfl rfl)
theorem dX0_catches_22 : decode cX0_catches 22 = .ok (.ifCond .eq 24, 3) := dk_153 0 24 (dk_at dksX0_catches_1 0 rfl rfl)
theorem dX0_catches_25 : decode cX0_catches 25 = .ok (.aload_n 0, 1) := dk_42 (dk_at dksX0_catches_1 3 rfl rfl)
theorem dX0_catches_26 : decode cX0_catches 26 = .ok (.aload_n 0, 1) := dk_42 (dk_at dksX0_catches_1 4 rfl rfl)
theorem dX0_catches_27 : decode cX0_catches 27 = .ok (.invokevirtual 144, 3) := dk_182 0 144 (dk_at dksX0_catches_1 5 rfl rfl)
theorem dX0_catches_30 : decode cX0_catches 30 = .ok (.aload_n 0, 1) := dk_42 (dk_at dksX0_catches_1 8 rfl rfl)
theorem dX0_catches_31 : decode cX0_catches 31 = .ok (.getfield 21, 3) := dk_180 0 21 (dk_at dksX0_catches_1 9 rfl rfl)
theorem dX0_catches_34 : decode cX0_catches 34 = .ok (.getfield 65, 3) := dk_180 0 65 (dk_at dksX0_catches_1 12 rfl rfl)
theorem dX0_catches_37 : decode cX0_catches 37 = .ok (.iload_n 1, 1) := dk_27 (dk_at dksX0_catches_1 15 rfl rfl)
theorem dX0_catches_38 : decode cX0_catches 38 = .ok (.iload_n 2, 1) := dk_28 (dk_at dksX0_catches_1 16 rfl rfl)
theorem dX0_catches_39 : decode cX0_catches 39 = .ok (.iload_n 3, 1) := dk_29 (dk_at dksX0_catches_1 17 rfl rfl)
theorem dX0_catches_40 : decode cX0_catches 40 = .ok (.invokevirtual 151, 3) := dk_182 0 151 (dk_at dksX0_catches_1 18 rfl rfl)
theorem dX0_catches_43 : decode cX0_catches 43 = .ok (.goto 4, 3) := dk_167 0 4 (dk_at dksX0_catches_1 21 rfl rfl)
theorem dX0_catches_46 : decode cX0_catches 46 = .ok (.iconst (-1), 1) := dk_2 (dk_at dksX0_catches_2 0 rfl rfl)
theorem dX0_catches_47 : decode cX0_catches 47 = .ok (.ireturn, 1) := dk_172 (dk_at dksX0_catches_2 1 rfl rfl)
abbrev cX0_is : ByteArray := prog_1_method_47_code
def yX0_is : MethodName := ⟨RX0, "is", "(I)I"⟩
def dkwX0_is_2 : List UInt8 := [16, 254, 172]
abbrev dktX0_is_2 : List UInt8 := dkwX0_is_2 ++ []
def dkwX0_is_1 : List UInt8 := [167, 0, 26, 27, 3, 4, 184, 0, 58, 153, 0, 15, 42, 180, 0, 21, 180, 0, 65, 27, 46, 167, 0, 5]
abbrev dktX0_is_1 : List UInt8 := dkwX0_is_1 ++ dktX0_is_2
def dkwX0_is_0 : List UInt8 := [27, 5, 160, 0, 13, 42, 3, 16, 30, 182, 1, 10, 167, 0, 38, 27, 6, 160, 0, 10, 42, 182, 1, 13]
abbrev dktX0_is_0 : List UInt8 := dkwX0_is_0 ++ dktX0_is_1
theorem dksX0_is_0 : cX0_is.data.toList.drop 0 = dktX0_is_0 := by decide +kernel
theorem dksX0_is_1 : cX0_is.data.toList.drop 24 = dktX0_is_1 := dk_seg dksX0_is_0 24 rfl rfl
theorem dksX0_is_2 : cX0_is.data.toList.drop 48 = dktX0_is_2 := dk_seg dksX0_is_1 24 rfl rfl
theorem dX0_is_0 : decode cX0_is 0 = .ok (.iload_n 1, 1) := dk_27 (dk_at dksX0_is_0 0 rfl rfl)
theorem dX0_is_1 : decode cX0_is 1 = .ok (.iconst 2, 1) := dk_5 (dk_at dksX0_is_0 1 rfl rfl)
theorem dX0_is_2 : decode cX0_is 2 = .ok (.if_icmp .ne 13, 3) := dk_160 0 13 (dk_at dksX0_is_0 2 rfl rfl)
theorem dX0_is_5 : decode cX0_is 5 = .ok (.aload_n 0, 1) := dk_42 (dk_at dksX0_is_0 5 rfl rfl)
theorem dX0_is_6 : decode cX0_is 6 = .ok (.iconst 0, 1) := dk_3 (dk_at dksX0_is_0 6 rfl rfl)
theorem dX0_is_7 : decode cX0_is 7 = .ok (.bipush 30, 2) := dk_16 30 (dk_at dksX0_is_0 7 rfl rfl)
theorem dX0_is_9 : decode cX0_is 9 = .ok (.invokevirtual 266, 3) := dk_182 1 10 (dk_at dksX0_is_0 9 rfl rfl)
theorem dX0_is_12 : decode cX0_is 12 = .ok (.goto 38, 3) := dk_167 0 38 (dk_at dksX0_is_0 12 rfl rfl)
theorem dX0_is_15 : decode cX0_is 15 = .ok (.iload_n 1, 1) := dk_27 (dk_at dksX0_is_0 15 rfl rfl)
theorem dX0_is_16 : decode cX0_is 16 = .ok (.iconst 3, 1) := dk_6 (dk_at dksX0_is_0 16 rfl rfl)
theorem dX0_is_17 : decode cX0_is 17 = .ok (.if_icmp .ne 10, 3) := dk_160 0 10 (dk_at dksX0_is_0 17 rfl rfl)
theorem dX0_is_20 : decode cX0_is 20 = .ok (.aload_n 0, 1) := dk_42 (dk_at dksX0_is_0 20 rfl rfl)
theorem dX0_is_21 : decode cX0_is 21 = .ok (.invokevirtual 269, 3) := dk_182 1 13 (dk_at dksX0_is_0 21 rfl rfl)
theorem dX0_is_24 : decode cX0_is 24 = .ok (.goto 26, 3) := dk_167 0 26 (dk_at dksX0_is_1 0 rfl rfl)
theorem dX0_is_27 : decode cX0_is 27 = .ok (.iload_n 1, 1) := dk_27 (dk_at dksX0_is_1 3 rfl rfl)
theorem dX0_is_28 : decode cX0_is 28 = .ok (.iconst 0, 1) := dk_3 (dk_at dksX0_is_1 4 rfl rfl)
theorem dX0_is_29 : decode cX0_is 29 = .ok (.iconst 1, 1) := dk_4 (dk_at dksX0_is_1 5 rfl rfl)
theorem dX0_is_30 : decode cX0_is 30 = .ok (.invokestatic 58, 3) := dk_184 0 58 (dk_at dksX0_is_1 6 rfl rfl)
theorem dX0_is_33 : decode cX0_is 33 = .ok (.ifCond .eq 15, 3) := dk_153 0 15 (dk_at dksX0_is_1 9 rfl rfl)
theorem dX0_is_36 : decode cX0_is 36 = .ok (.aload_n 0, 1) := dk_42 (dk_at dksX0_is_1 12 rfl rfl)
theorem dX0_is_37 : decode cX0_is 37 = .ok (.getfield 21, 3) := dk_180 0 21 (dk_at dksX0_is_1 13 rfl rfl)
theorem dX0_is_40 : decode cX0_is 40 = .ok (.getfield 65, 3) := dk_180 0 65 (dk_at dksX0_is_1 16 rfl rfl)
theorem dX0_is_43 : decode cX0_is 43 = .ok (.iload_n 1, 1) := dk_27 (dk_at dksX0_is_1 19 rfl rfl)
theorem dX0_is_44 : decode cX0_is 44 = .ok (.iaload, 1) := dk_46 (dk_at dksX0_is_1 20 rfl rfl)
theorem dX0_is_45 : decode cX0_is 45 = .ok (.goto 5, 3) := dk_167 0 5 (dk_at dksX0_is_1 21 rfl rfl)
theorem dX0_is_48 : decode cX0_is 48 = .ok (.bipush (-2), 2) := dk_16 254 (dk_at dksX0_is_2 0 rfl rfl)
theorem dX0_is_50 : decode cX0_is 50 = .ok (.ireturn, 1) := dk_172 (dk_at dksX0_is_2 2 rfl rfl)
abbrev cX0_barsFrom : ByteArray := prog_1_method_45_code
def yX0_barsFrom : MethodName := ⟨RX0, "barsFrom", "(II)I"⟩
def dkwX0_barsFrom_1 : List UInt8 := [160, 0, 7, 4, 167, 0, 4, 3, 96, 62, 132, 4, 1, 167, 255, 224, 29, 172]
abbrev dktX0_barsFrom_1 : List UInt8 := dkwX0_barsFrom_1 ++ []
def dkwX0_barsFrom_0 : List UInt8 := [3, 62, 3, 54, 4, 21, 4, 28, 162, 0, 32, 29, 42, 27, 21, 4, 96, 16, 30, 112, 182, 0, 172, 4]
abbrev dktX0_barsFrom_0 : List UInt8 := dkwX0_barsFrom_0 ++ dktX0_barsFrom_1
theorem dksX0_barsFrom_0 : cX0_barsFrom.data.toList.drop 0 = dktX0_barsFrom_0 := by decide +kernel
theorem dksX0_barsFrom_1 : cX0_barsFrom.data.toList.drop 24 = dktX0_barsFrom_1 := dk_seg dksX0_barsFrom_0 24 rfl rfl
theorem dX0_barsFrom_0 : decode cX0_barsFrom 0 = .ok (.iconst 0, 1) := dk_3 (dk_at dksX0_barsFrom_0 0 rfl rfl)
theorem dX0_barsFrom_1 : decode cX0_barsFrom 1 = .ok (.istore_n 3, 1) := dk_62 (dk_at dksX0_barsFrom_0 1 rfl rfl)
theorem dX0_barsFrom_2 : decode cX0_barsFrom 2 = .ok (.iconst 0, 1) := dk_3 (dk_at dksX0_barsFrom_0 2 rfl rfl)
theorem dX0_barsFrom_3 : decode cX0_barsFrom 3 = .ok (.istore 4, 2) := dk_54 4 (dk_at dksX0_barsFrom_0 3 rfl rfl)
theorem dX0_barsFrom_5 : decode cX0_barsFrom 5 = .ok (.iload 4, 2) := dk_21 4 (dk_at dksX0_barsFrom_0 5 rfl rfl)
theorem dX0_barsFrom_7 : decode cX0_barsFrom 7 = .ok (.iload_n 2, 1) := dk_28 (dk_at dksX0_barsFrom_0 7 rfl rfl)
theorem dX0_barsFrom_8 : decode cX0_barsFrom 8 = .ok (.if_icmp .ge 32, 3) := dk_162 0 32 (dk_at dksX0_barsFrom_0 8 rfl rfl)
theorem dX0_barsFrom_11 : decode cX0_barsFrom 11 = .ok (.iload_n 3, 1) := dk_29 (dk_at dksX0_barsFrom_0 11 rfl rfl)
theorem dX0_barsFrom_12 : decode cX0_barsFrom 12 = .ok (.aload_n 0, 1) := dk_42 (dk_at dksX0_barsFrom_0 12 rfl rfl)
theorem dX0_barsFrom_13 : decode cX0_barsFrom 13 = .ok (.iload_n 1, 1) := dk_27 (dk_at dksX0_barsFrom_0 13 rfl rfl)
theorem dX0_barsFrom_14 : decode cX0_barsFrom 14 = .ok (.iload 4, 2) := dk_21 4 (dk_at dksX0_barsFrom_0 14 rfl rfl)
theorem dX0_barsFrom_16 : decode cX0_barsFrom 16 = .ok (.iadd, 1) := dk_96 (dk_at dksX0_barsFrom_0 16 rfl rfl)
theorem dX0_barsFrom_17 : decode cX0_barsFrom 17 = .ok (.bipush 30, 2) := dk_16 30 (dk_at dksX0_barsFrom_0 17 rfl rfl)
theorem dX0_barsFrom_19 : decode cX0_barsFrom 19 = .ok (.irem, 1) := dk_112 (dk_at dksX0_barsFrom_0 19 rfl rfl)
theorem dX0_barsFrom_20 : decode cX0_barsFrom 20 = .ok (.invokevirtual 172, 3) := dk_182 0 172 (dk_at dksX0_barsFrom_0 20 rfl rfl)
theorem dX0_barsFrom_23 : decode cX0_barsFrom 23 = .ok (.iconst 1, 1) := dk_4 (dk_at dksX0_barsFrom_0 23 rfl rfl)
theorem dX0_barsFrom_24 : decode cX0_barsFrom 24 = .ok (.if_icmp .ne 7, 3) := dk_160 0 7 (dk_at dksX0_barsFrom_1 0 rfl rfl)
theorem dX0_barsFrom_27 : decode cX0_barsFrom 27 = .ok (.iconst 1, 1) := dk_4 (dk_at dksX0_barsFrom_1 3 rfl rfl)
theorem dX0_barsFrom_28 : decode cX0_barsFrom 28 = .ok (.goto 4, 3) := dk_167 0 4 (dk_at dksX0_barsFrom_1 4 rfl rfl)
theorem dX0_barsFrom_31 : decode cX0_barsFrom 31 = .ok (.iconst 0, 1) := dk_3 (dk_at dksX0_barsFrom_1 7 rfl rfl)
theorem dX0_barsFrom_32 : decode cX0_barsFrom 32 = .ok (.iadd, 1) := dk_96 (dk_at dksX0_barsFrom_1 8 rfl rfl)
theorem dX0_barsFrom_33 : decode cX0_barsFrom 33 = .ok (.istore_n 3, 1) := dk_62 (dk_at dksX0_barsFrom_1 9 rfl rfl)
theorem dX0_barsFrom_34 : decode cX0_barsFrom 34 = .ok (.iinc 4 1, 3) := dk_132 4 1 (dk_at dksX0_barsFrom_1 10 rfl rfl)
theorem dX0_barsFrom_37 : decode cX0_barsFrom 37 = .ok (.goto (-32), 3) := dk_167 255 224 (dk_at dksX0_barsFrom_1 13 rfl rfl)
theorem dX0_barsFrom_40 : decode cX0_barsFrom 40 = .ok (.iload_n 3, 1) := dk_29 (dk_at dksX0_barsFrom_1 16 rfl rfl)
theorem dX0_barsFrom_41 : decode cX0_barsFrom 41 = .ok (.ireturn, 1) := dk_172 (dk_at dksX0_barsFrom_1 17 rfl rfl)
abbrev cX0_unnumbered : ByteArray := prog_1_method_46_code
def yX0_unnumbered : MethodName := ⟨RX0, "unnumbered", "()I"⟩
def dkwX0_unnumbered_1 : List UInt8 := [153, 0, 9, 4, 28, 120, 167, 0, 4, 3, 128, 60, 132, 2, 1, 167, 255, 222, 27, 172]
abbrev dktX0_unnumbered_1 : List UInt8 := dkwX0_unnumbered_1 ++ []
def dkwX0_unnumbered_0 : List UInt8 := [3, 60, 3, 61, 28, 42, 180, 0, 21, 180, 0, 62, 3, 46, 162, 0, 27, 27, 42, 28, 182, 0, 162]
abbrev dktX0_unnumbered_0 : List UInt8 := dkwX0_unnumbered_0 ++ dktX0_unnumbered_1
theorem dksX0_unnumbered_0 : cX0_unnumbered.data.toList.drop 0 = dktX0_unnumbered_0 := by decide +kernel
theorem dksX0_unnumbered_1 : cX0_unnumbered.data.toList.drop 23 = dktX0_unnumbered_1 := dk_seg dksX0_unnumbered_0 23 rfl rfl
theorem dX0_unnumbered_0 : decode cX0_unnumbered 0 = .ok (.iconst 0, 1) := dk_3 (dk_at dksX0_unnumbered_0 0 rfl rfl)
theorem dX0_unnumbered_1 : decode cX0_unnumbered 1 = .ok (.istore_n 1, 1) := dk_60 (dk_at dksX0_unnumbered_0 1 rfl rfl)
theorem dX0_unnumbered_2 : decode cX0_unnumbered 2 = .ok (.iconst 0, 1) := dk_3 (dk_at dksX0_unnumbered_0 2 rfl rfl)
theorem dX0_unnumbered_3 : decode cX0_unnumbered 3 = .ok (.istore_n 2, 1) := dk_61 (dk_at dksX0_unnumbered_0 3 rfl rfl)
theorem dX0_unnumbered_4 : decode cX0_unnumbered 4 = .ok (.iload_n 2, 1) := dk_28 (dk_at dksX0_unnumbered_0 4 rfl rfl)
theorem dX0_unnumbered_5 : decode cX0_unnumbered 5 = .ok (.aload_n 0, 1) := dk_42 (dk_at dksX0_unnumbered_0 5 rfl rfl)
theorem dX0_unnumbered_6 : decode cX0_unnumbered 6 = .ok (.getfield 21, 3) := dk_180 0 21 (dk_at dksX0_unnumbered_0 6 rfl rfl)
theorem dX0_unnumbered_9 : decode cX0_unnumbered 9 = .ok (.getfield 62, 3) := dk_180 0 62 (dk_at dksX0_unnumbered_0 9 rfl rfl)
theorem dX0_unnumbered_12 : decode cX0_unnumbered 12 = .ok (.iconst 0, 1) := dk_3 (dk_at dksX0_unnumbered_0 12 rfl rfl)
theorem dX0_unnumbered_13 : decode cX0_unnumbered 13 = .ok (.iaload, 1) := dk_46 (dk_at dksX0_unnumbered_0 13 rfl rfl)
theorem dX0_unnumbered_14 : decode cX0_unnumbered 14 = .ok (.if_icmp .ge 27, 3) := dk_162 0 27 (dk_at dksX0_unnumbered_0 14 rfl rfl)
theorem dX0_unnumbered_17 : decode cX0_unnumbered 17 = .ok (.iload_n 1, 1) := dk_27 (dk_at dksX0_unnumbered_0 17 rfl rfl)
theorem dX0_unnumbered_18 : decode cX0_unnumbered 18 = .ok (.aload_n 0, 1) := dk_42 (dk_at dksX0_unnumbered_0 18 rfl rfl)
theorem dX0_unnumbered_19 : decode cX0_unnumbered 19 = .ok (.iload_n 2, 1) := dk_28 (dk_at dksX0_unnumbered_0 19 rfl rfl)
theorem dX0_unnumbered_20 : decode cX0_unnumbered 20 = .ok (.invokevirtual 162, 3) := dk_182 0 162 (dk_at dksX0_unnumbered_0 20 rfl rfl)
theorem dX0_unnumbered_23 : decode cX0_unnumbered 23 = .ok (.ifCond .eq 9, 3) := dk_153 0 9 (dk_at dksX0_unnumbered_1 0 rfl rfl)
theorem dX0_unnumbered_26 : decode cX0_unnumbered 26 = .ok (.iconst 1, 1) := dk_4 (dk_at dksX0_unnumbered_1 3 rfl rfl)
theorem dX0_unnumbered_27 : decode cX0_unnumbered 27 = .ok (.iload_n 2, 1) := dk_28 (dk_at dksX0_unnumbered_1 4 rfl rfl)
theorem dX0_unnumbered_28 : decode cX0_unnumbered 28 = .ok (.ishl, 1) := dk_120 (dk_at dksX0_unnumbered_1 5 rfl rfl)
theorem dX0_unnumbered_29 : decode cX0_unnumbered 29 = .ok (.goto 4, 3) := dk_167 0 4 (dk_at dksX0_unnumbered_1 6 rfl rfl)
theorem dX0_unnumbered_32 : decode cX0_unnumbered 32 = .ok (.iconst 0, 1) := dk_3 (dk_at dksX0_unnumbered_1 9 rfl rfl)
theorem dX0_unnumbered_33 : decode cX0_unnumbered 33 = .ok (.ior, 1) := dk_128 (dk_at dksX0_unnumbered_1 10 rfl rfl)
theorem dX0_unnumbered_34 : decode cX0_unnumbered 34 = .ok (.istore_n 1, 1) := dk_60 (dk_at dksX0_unnumbered_1 11 rfl rfl)
theorem dX0_unnumbered_35 : decode cX0_unnumbered 35 = .ok (.iinc 2 1, 3) := dk_132 2 1 (dk_at dksX0_unnumbered_1 12 rfl rfl)
theorem dX0_unnumbered_38 : decode cX0_unnumbered 38 = .ok (.goto (-34), 3) := dk_167 255 222 (dk_at dksX0_unnumbered_1 15 rfl rfl)
theorem dX0_unnumbered_41 : decode cX0_unnumbered 41 = .ok (.iload_n 1, 1) := dk_27 (dk_at dksX0_unnumbered_1 18 rfl rfl)
theorem dX0_unnumbered_42 : decode cX0_unnumbered 42 = .ok (.ireturn, 1) := dk_172 (dk_at dksX0_unnumbered_1 19 rfl rfl)
abbrev cX0_book : ByteArray := prog_1_method_48_code
def yX0_book : MethodName := ⟨RX0, "book", "(II)I"⟩
def dkwX0_book_2 : List UInt8 := [180, 0, 21, 180, 0, 65, 16, 70, 7, 27, 104, 96, 28, 96, 46, 167, 0, 5, 16, 254, 172]
abbrev dktX0_book_2 : List UInt8 := dkwX0_book_2 ++ []
def dkwX0_book_1 : List UInt8 := [180, 0, 65, 16, 69, 46, 4, 100, 184, 0, 58, 153, 0, 31, 28, 3, 6, 184, 0, 58, 153, 0, 22, 42]
abbrev dktX0_book_1 : List UInt8 := dkwX0_book_1 ++ dktX0_book_2
def dkwX0_book_0 : List UInt8 := [27, 2, 160, 0, 14, 42, 180, 0, 21, 180, 0, 65, 16, 69, 46, 172, 27, 3, 42, 180, 0, 21]
abbrev dktX0_book_0 : List UInt8 := dkwX0_book_0 ++ dktX0_book_1
theorem dksX0_book_0 : cX0_book.data.toList.drop 0 = dktX0_book_0 := by decide +kernel
theorem dksX0_book_1 : cX0_book.data.toList.drop 22 = dktX0_book_1 := dk_seg dksX0_book_0 22 rfl rfl
theorem dksX0_book_2 : cX0_book.data.toList.drop 46 = dktX0_book_2 := dk_seg dksX0_book_1 24 rfl rfl
theorem dX0_book_0 : decode cX0_book 0 = .ok (.iload_n 1, 1) := dk_27 (dk_at dksX0_book_0 0 rfl rfl)
theorem dX0_book_1 : decode cX0_book 1 = .ok (.iconst (-1), 1) := dk_2 (dk_at dksX0_book_0 1 rfl rfl)
theorem dX0_book_2 : decode cX0_book 2 = .ok (.if_icmp .ne 14, 3) := dk_160 0 14 (dk_at dksX0_book_0 2 rfl rfl)
theorem dX0_book_5 : decode cX0_book 5 = .ok (.aload_n 0, 1) := dk_42 (dk_at dksX0_book_0 5 rfl rfl)
theorem dX0_book_6 : decode cX0_book 6 = .ok (.getfield 21, 3) := dk_180 0 21 (dk_at dksX0_book_0 6 rfl rfl)
theorem dX0_book_9 : decode cX0_book 9 = .ok (.getfield 65, 3) := dk_180 0 65 (dk_at dksX0_book_0 9 rfl rfl)
theorem dX0_book_12 : decode cX0_book 12 = .ok (.bipush 69, 2) := dk_16 69 (dk_at dksX0_book_0 12 rfl rfl)
theorem dX0_book_14 : decode cX0_book 14 = .ok (.iaload, 1) := dk_46 (dk_at dksX0_book_0 14 rfl rfl)
theorem dX0_book_15 : decode cX0_book 15 = .ok (.ireturn, 1) := dk_172 (dk_at dksX0_book_0 15 rfl rfl)
theorem dX0_book_16 : decode cX0_book 16 = .ok (.iload_n 1, 1) := dk_27 (dk_at dksX0_book_0 16 rfl rfl)
theorem dX0_book_17 : decode cX0_book 17 = .ok (.iconst 0, 1) := dk_3 (dk_at dksX0_book_0 17 rfl rfl)
theorem dX0_book_18 : decode cX0_book 18 = .ok (.aload_n 0, 1) := dk_42 (dk_at dksX0_book_0 18 rfl rfl)
theorem dX0_book_19 : decode cX0_book 19 = .ok (.getfield 21, 3) := dk_180 0 21 (dk_at dksX0_book_0 19 rfl rfl)
theorem dX0_book_22 : decode cX0_book 22 = .ok (.getfield 65, 3) := dk_180 0 65 (dk_at dksX0_book_1 0 rfl rfl)
theorem dX0_book_25 : decode cX0_book 25 = .ok (.bipush 69, 2) := dk_16 69 (dk_at dksX0_book_1 3 rfl rfl)
theorem dX0_book_27 : decode cX0_book 27 = .ok (.iaload, 1) := dk_46 (dk_at dksX0_book_1 5 rfl rfl)
theorem dX0_book_28 : decode cX0_book 28 = .ok (.iconst 1, 1) := dk_4 (dk_at dksX0_book_1 6 rfl rfl)
theorem dX0_book_29 : decode cX0_book 29 = .ok (.isub, 1) := dk_100 (dk_at dksX0_book_1 7 rfl rfl)
theorem dX0_book_30 : decode cX0_book 30 = .ok (.invokestatic 58, 3) := dk_184 0 58 (dk_at dksX0_book_1 8 rfl rfl)
theorem dX0_book_33 : decode cX0_book 33 = .ok (.ifCond .eq 31, 3) := dk_153 0 31 (dk_at dksX0_book_1 11 rfl rfl)
theorem dX0_book_36 : decode cX0_book 36 = .ok (.iload_n 2, 1) := dk_28 (dk_at dksX0_book_1 14 rfl rfl)
theorem dX0_book_37 : decode cX0_book 37 = .ok (.iconst 0, 1) := dk_3 (dk_at dksX0_book_1 15 rfl rfl)
theorem dX0_book_38 : decode cX0_book 38 = .ok (.iconst 3, 1) := dk_6 (dk_at dksX0_book_1 16 rfl rfl)
theorem dX0_book_39 : decode cX0_book 39 = .ok (.invokestatic 58, 3) := dk_184 0 58 (dk_at dksX0_book_1 17 rfl rfl)
theorem dX0_book_42 : decode cX0_book 42 = .ok (.ifCond .eq 22, 3) := dk_153 0 22 (dk_at dksX0_book_1 20 rfl rfl)
theorem dX0_book_45 : decode cX0_book 45 = .ok (.aload_n 0, 1) := dk_42 (dk_at dksX0_book_1 23 rfl rfl)
theorem dX0_book_46 : decode cX0_book 46 = .ok (.getfield 21, 3) := dk_180 0 21 (dk_at dksX0_book_2 0 rfl rfl)
theorem dX0_book_49 : decode cX0_book 49 = .ok (.getfield 65, 3) := dk_180 0 65 (dk_at dksX0_book_2 3 rfl rfl)
theorem dX0_book_52 : decode cX0_book 52 = .ok (.bipush 70, 2) := dk_16 70 (dk_at dksX0_book_2 6 rfl rfl)
theorem dX0_book_54 : decode cX0_book 54 = .ok (.iconst 4, 1) := dk_7 (dk_at dksX0_book_2 8 rfl rfl)
theorem dX0_book_55 : decode cX0_book 55 = .ok (.iload_n 1, 1) := dk_27 (dk_at dksX0_book_2 9 rfl rfl)
theorem dX0_book_56 : decode cX0_book 56 = .ok (.imul, 1) := dk_104 (dk_at dksX0_book_2 10 rfl rfl)
theorem dX0_book_57 : decode cX0_book 57 = .ok (.iadd, 1) := dk_96 (dk_at dksX0_book_2 11 rfl rfl)
theorem dX0_book_58 : decode cX0_book 58 = .ok (.iload_n 2, 1) := dk_28 (dk_at dksX0_book_2 12 rfl rfl)
theorem dX0_book_59 : decode cX0_book 59 = .ok (.iadd, 1) := dk_96 (dk_at dksX0_book_2 13 rfl rfl)
theorem dX0_book_60 : decode cX0_book 60 = .ok (.iaload, 1) := dk_46 (dk_at dksX0_book_2 14 rfl rfl)
theorem dX0_book_61 : decode cX0_book 61 = .ok (.goto 5, 3) := dk_167 0 5 (dk_at dksX0_book_2 15 rfl rfl)
theorem dX0_book_64 : decode cX0_book 64 = .ok (.bipush (-2), 2) := dk_16 254 (dk_at dksX0_book_2 18 rfl rfl)
theorem dX0_book_66 : decode cX0_book 66 = .ok (.ireturn, 1) := dk_172 (dk_at dksX0_book_2 20 rfl rfl)
abbrev cX0_foretold : ByteArray := prog_1_method_49_code
def yX0_foretold : MethodName := ⟨RX0, "foretold", "(II)I"⟩
def dkwX0_foretold_3 : List UInt8 := [132, 4, 1, 167, 255, 224, 42, 180, 0, 43, 16, 62, 28, 96, 46, 172]
abbrev dktX0_foretold_3 : List UInt8 := dkwX0_foretold_3 ++ []
def dkwX0_foretold_2 : List UInt8 := [42, 180, 0, 43, 3, 46, 17, 39, 15, 162, 0, 20, 29, 42, 42, 180, 0, 43, 182, 0, 196, 96, 62]
abbrev dktX0_foretold_2 : List UInt8 := dkwX0_foretold_2 ++ dktX0_foretold_3
def dkwX0_foretold_1 : List UInt8 := [180, 0, 21, 180, 0, 65, 42, 180, 0, 43, 184, 1, 6, 3, 62, 3, 54, 4, 21, 4, 27, 162, 0, 32]
abbrev dktX0_foretold_1 : List UInt8 := dkwX0_foretold_1 ++ dktX0_foretold_2
def dkwX0_foretold_0 : List UInt8 := [27, 4, 16, 60, 184, 0, 58, 153, 0, 11, 42, 28, 182, 0, 159, 154, 0, 6, 16, 254, 172, 42]
abbrev dktX0_foretold_0 : List UInt8 := dkwX0_foretold_0 ++ dktX0_foretold_1
theorem dksX0_foretold_0 : cX0_foretold.data.toList.drop 0 = dktX0_foretold_0 := by decide +kernel
theorem dksX0_foretold_1 : cX0_foretold.data.toList.drop 22 = dktX0_foretold_1 := dk_seg dksX0_foretold_0 22 rfl rfl
theorem dksX0_foretold_2 : cX0_foretold.data.toList.drop 46 = dktX0_foretold_2 := dk_seg dksX0_foretold_1 24 rfl rfl
theorem dksX0_foretold_3 : cX0_foretold.data.toList.drop 69 = dktX0_foretold_3 := dk_seg dksX0_foretold_2 23 rfl rfl
theorem dX0_foretold_0 : decode cX0_foretold 0 = .ok (.iload_n 1, 1) := dk_27 (dk_at dksX0_foretold_0 0 rfl rfl)
theorem dX0_foretold_1 : decode cX0_foretold 1 = .ok (.iconst 1, 1) := dk_4 (dk_at dksX0_foretold_0 1 rfl rfl)
theorem dX0_foretold_2 : decode cX0_foretold 2 = .ok (.bipush 60, 2) := dk_16 60 (dk_at dksX0_foretold_0 2 rfl rfl)
theorem dX0_foretold_4 : decode cX0_foretold 4 = .ok (.invokestatic 58, 3) := dk_184 0 58 (dk_at dksX0_foretold_0 4 rfl rfl)
theorem dX0_foretold_7 : decode cX0_foretold 7 = .ok (.ifCond .eq 11, 3) := dk_153 0 11 (dk_at dksX0_foretold_0 7 rfl rfl)
theorem dX0_foretold_10 : decode cX0_foretold 10 = .ok (.aload_n 0, 1) := dk_42 (dk_at dksX0_foretold_0 10 rfl rfl)
theorem dX0_foretold_11 : decode cX0_foretold 11 = .ok (.iload_n 2, 1) := dk_28 (dk_at dksX0_foretold_0 11 rfl rfl)
theorem dX0_foretold_12 : decode cX0_foretold 12 = .ok (.invokevirtual 159, 3) := dk_182 0 159 (dk_at dksX0_foretold_0 12 rfl rfl)
theorem dX0_foretold_15 : decode cX0_foretold 15 = .ok (.ifCond .ne 6, 3) := dk_154 0 6 (dk_at dksX0_foretold_0 15 rfl rfl)
theorem dX0_foretold_18 : decode cX0_foretold 18 = .ok (.bipush (-2), 2) := dk_16 254 (dk_at dksX0_foretold_0 18 rfl rfl)
theorem dX0_foretold_20 : decode cX0_foretold 20 = .ok (.ireturn, 1) := dk_172 (dk_at dksX0_foretold_0 20 rfl rfl)
theorem dX0_foretold_21 : decode cX0_foretold 21 = .ok (.aload_n 0, 1) := dk_42 (dk_at dksX0_foretold_0 21 rfl rfl)
theorem dX0_foretold_22 : decode cX0_foretold 22 = .ok (.getfield 21, 3) := dk_180 0 21 (dk_at dksX0_foretold_1 0 rfl rfl)
theorem dX0_foretold_25 : decode cX0_foretold 25 = .ok (.getfield 65, 3) := dk_180 0 65 (dk_at dksX0_foretold_1 3 rfl rfl)
theorem dX0_foretold_28 : decode cX0_foretold 28 = .ok (.aload_n 0, 1) := dk_42 (dk_at dksX0_foretold_1 6 rfl rfl)
theorem dX0_foretold_29 : decode cX0_foretold 29 = .ok (.getfield 43, 3) := dk_180 0 43 (dk_at dksX0_foretold_1 7 rfl rfl)
theorem dX0_foretold_32 : decode cX0_foretold 32 = .ok (.invokestatic 262, 3) := dk_184 1 6 (dk_at dksX0_foretold_1 10 rfl rfl)
theorem dX0_foretold_35 : decode cX0_foretold 35 = .ok (.iconst 0, 1) := dk_3 (dk_at dksX0_foretold_1 13 rfl rfl)
theorem dX0_foretold_36 : decode cX0_foretold 36 = .ok (.istore_n 3, 1) := dk_62 (dk_at dksX0_foretold_1 14 rfl rfl)
theorem dX0_foretold_37 : decode cX0_foretold 37 = .ok (.iconst 0, 1) := dk_3 (dk_at dksX0_foretold_1 15 rfl rfl)
theorem dX0_foretold_38 : decode cX0_foretold 38 = .ok (.istore 4, 2) := dk_54 4 (dk_at dksX0_foretold_1 16 rfl rfl)
theorem dX0_foretold_40 : decode cX0_foretold 40 = .ok (.iload 4, 2) := dk_21 4 (dk_at dksX0_foretold_1 18 rfl rfl)
theorem dX0_foretold_42 : decode cX0_foretold 42 = .ok (.iload_n 1, 1) := dk_27 (dk_at dksX0_foretold_1 20 rfl rfl)
theorem dX0_foretold_43 : decode cX0_foretold 43 = .ok (.if_icmp .ge 32, 3) := dk_162 0 32 (dk_at dksX0_foretold_1 21 rfl rfl)
theorem dX0_foretold_46 : decode cX0_foretold 46 = .ok (.aload_n 0, 1) := dk_42 (dk_at dksX0_foretold_2 0 rfl rfl)
theorem dX0_foretold_47 : decode cX0_foretold 47 = .ok (.getfield 43, 3) := dk_180 0 43 (dk_at dksX0_foretold_2 1 rfl rfl)
theorem dX0_foretold_50 : decode cX0_foretold 50 = .ok (.iconst 0, 1) := dk_3 (dk_at dksX0_foretold_2 4 rfl rfl)
theorem dX0_foretold_51 : decode cX0_foretold 51 = .ok (.iaload, 1) := dk_46 (dk_at dksX0_foretold_2 5 rfl rfl)
theorem dX0_foretold_52 : decode cX0_foretold 52 = .ok (.sipush 9999, 3) := dk_17 39 15 (dk_at dksX0_foretold_2 6 rfl rfl)
theorem dX0_foretold_55 : decode cX0_foretold 55 = .ok (.if_icmp .ge 20, 3) := dk_162 0 20 (dk_at dksX0_foretold_2 9 rfl rfl)
theorem dX0_foretold_58 : decode cX0_foretold 58 = .ok (.iload_n 3, 1) := dk_29 (dk_at dksX0_foretold_2 12 rfl rfl)
theorem dX0_foretold_59 : decode cX0_foretold 59 = .ok (.aload_n 0, 1) := dk_42 (dk_at dksX0_foretold_2 13 rfl rfl)
theorem dX0_foretold_60 : decode cX0_foretold 60 = .ok (.aload_n 0, 1) := dk_42 (dk_at dksX0_foretold_2 14 rfl rfl)
theorem dX0_foretold_61 : decode cX0_foretold 61 = .ok (.getfield 43, 3) := dk_180 0 43 (dk_at dksX0_foretold_2 15 rfl rfl)
theorem dX0_foretold_64 : decode cX0_foretold 64 = .ok (.invokevirtual 196, 3) := dk_182 0 196 (dk_at dksX0_foretold_2 18 rfl rfl)
theorem dX0_foretold_67 : decode cX0_foretold 67 = .ok (.iadd, 1) := dk_96 (dk_at dksX0_foretold_2 21 rfl rfl)
theorem dX0_foretold_68 : decode cX0_foretold 68 = .ok (.istore_n 3, 1) := dk_62 (dk_at dksX0_foretold_2 22 rfl rfl)
theorem dX0_foretold_69 : decode cX0_foretold 69 = .ok (.iinc 4 1, 3) := dk_132 4 1 (dk_at dksX0_foretold_3 0 rfl rfl)
theorem dX0_foretold_72 : decode cX0_foretold 72 = .ok (.goto (-32), 3) := dk_167 255 224 (dk_at dksX0_foretold_3 3 rfl rfl)
theorem dX0_foretold_75 : decode cX0_foretold 75 = .ok (.aload_n 0, 1) := dk_42 (dk_at dksX0_foretold_3 6 rfl rfl)
theorem dX0_foretold_76 : decode cX0_foretold 76 = .ok (.getfield 43, 3) := dk_180 0 43 (dk_at dksX0_foretold_3 7 rfl rfl)
theorem dX0_foretold_79 : decode cX0_foretold 79 = .ok (.bipush 62, 2) := dk_16 62 (dk_at dksX0_foretold_3 10 rfl rfl)
theorem dX0_foretold_81 : decode cX0_foretold 81 = .ok (.iload_n 2, 1) := dk_28 (dk_at dksX0_foretold_3 12 rfl rfl)
theorem dX0_foretold_82 : decode cX0_foretold 82 = .ok (.iadd, 1) := dk_96 (dk_at dksX0_foretold_3 13 rfl rfl)
theorem dX0_foretold_83 : decode cX0_foretold 83 = .ok (.iaload, 1) := dk_46 (dk_at dksX0_foretold_3 14 rfl rfl)
theorem dX0_foretold_84 : decode cX0_foretold 84 = .ok (.ireturn, 1) := dk_172 (dk_at dksX0_foretold_3 15 rfl rfl)
abbrev cX0_likely : ByteArray := prog_1_method_55_code
def yX0_likely : MethodName := ⟨RX0, "likely", "(IIIZ)J"⟩
def dkwX0_likely_3 : List UInt8 := [167, 0, 8, 22, 5, 22, 9, 109, 173]
abbrev dktX0_likely_3 : List UInt8 := dkwX0_likely_3 ++ []
def dkwX0_likely_2 : List UInt8 := [184, 1, 25, 55, 7, 22, 7, 22, 5, 184, 1, 22, 55, 9, 21, 4, 153, 0, 11, 22, 7, 22, 9, 109]
abbrev dktX0_likely_2 : List UInt8 := dkwX0_likely_2 ++ dktX0_likely_3
def dkwX0_likely_1 : List UInt8 := [154, 0, 7, 20, 1, 29, 173, 42, 28, 182, 1, 31, 42, 27, 29, 182, 1, 34, 55, 5, 20, 1, 38, 29]
abbrev dktX0_likely_1 : List UInt8 := dkwX0_likely_1 ++ dktX0_likely_2
def dkwX0_likely_0 : List UInt8 := [42, 27, 182, 0, 159, 153, 0, 20, 28, 184, 0, 68, 153, 0, 13, 29, 3, 16, 12, 184, 0, 58]
abbrev dktX0_likely_0 : List UInt8 := dkwX0_likely_0 ++ dktX0_likely_1
theorem dksX0_likely_0 : cX0_likely.data.toList.drop 0 = dktX0_likely_0 := by decide +kernel
theorem dksX0_likely_1 : cX0_likely.data.toList.drop 22 = dktX0_likely_1 := dk_seg dksX0_likely_0 22 rfl rfl
theorem dksX0_likely_2 : cX0_likely.data.toList.drop 46 = dktX0_likely_2 := dk_seg dksX0_likely_1 24 rfl rfl
theorem dksX0_likely_3 : cX0_likely.data.toList.drop 70 = dktX0_likely_3 := dk_seg dksX0_likely_2 24 rfl rfl
theorem dX0_likely_0 : decode cX0_likely 0 = .ok (.aload_n 0, 1) := dk_42 (dk_at dksX0_likely_0 0 rfl rfl)
theorem dX0_likely_1 : decode cX0_likely 1 = .ok (.iload_n 1, 1) := dk_27 (dk_at dksX0_likely_0 1 rfl rfl)
theorem dX0_likely_2 : decode cX0_likely 2 = .ok (.invokevirtual 159, 3) := dk_182 0 159 (dk_at dksX0_likely_0 2 rfl rfl)
theorem dX0_likely_5 : decode cX0_likely 5 = .ok (.ifCond .eq 20, 3) := dk_153 0 20 (dk_at dksX0_likely_0 5 rfl rfl)
theorem dX0_likely_8 : decode cX0_likely 8 = .ok (.iload_n 2, 1) := dk_28 (dk_at dksX0_likely_0 8 rfl rfl)
theorem dX0_likely_9 : decode cX0_likely 9 = .ok (.invokestatic 68, 3) := dk_184 0 68 (dk_at dksX0_likely_0 9 rfl rfl)
theorem dX0_likely_12 : decode cX0_likely 12 = .ok (.ifCond .eq 13, 3) := dk_153 0 13 (dk_at dksX0_likely_0 12 rfl rfl)
theorem dX0_likely_15 : decode cX0_likely 15 = .ok (.iload_n 3, 1) := dk_29 (dk_at dksX0_likely_0 15 rfl rfl)
theorem dX0_likely_16 : decode cX0_likely 16 = .ok (.iconst 0, 1) := dk_3 (dk_at dksX0_likely_0 16 rfl rfl)
theorem dX0_likely_17 : decode cX0_likely 17 = .ok (.bipush 12, 2) := dk_16 12 (dk_at dksX0_likely_0 17 rfl rfl)
theorem dX0_likely_19 : decode cX0_likely 19 = .ok (.invokestatic 58, 3) := dk_184 0 58 (dk_at dksX0_likely_0 19 rfl rfl)
theorem dX0_likely_22 : decode cX0_likely 22 = .ok (.ifCond .ne 7, 3) := dk_154 0 7 (dk_at dksX0_likely_1 0 rfl rfl)
theorem dX0_likely_25 : decode cX0_likely 25 = .ok (.ldc2_w 285, 3) := dk_20 1 29 (dk_at dksX0_likely_1 3 rfl rfl)
theorem dX0_likely_28 : decode cX0_likely 28 = .ok (.lreturn, 1) := dk_173 (dk_at dksX0_likely_1 6 rfl rfl)
theorem dX0_likely_29 : decode cX0_likely 29 = .ok (.aload_n 0, 1) := dk_42 (dk_at dksX0_likely_1 7 rfl rfl)
theorem dX0_likely_30 : decode cX0_likely 30 = .ok (.iload_n 2, 1) := dk_28 (dk_at dksX0_likely_1 8 rfl rfl)
theorem dX0_likely_31 : decode cX0_likely 31 = .ok (.invokevirtual 287, 3) := dk_182 1 31 (dk_at dksX0_likely_1 9 rfl rfl)
theorem dX0_likely_34 : decode cX0_likely 34 = .ok (.aload_n 0, 1) := dk_42 (dk_at dksX0_likely_1 12 rfl rfl)
theorem dX0_likely_35 : decode cX0_likely 35 = .ok (.iload_n 1, 1) := dk_27 (dk_at dksX0_likely_1 13 rfl rfl)
theorem dX0_likely_36 : decode cX0_likely 36 = .ok (.iload_n 3, 1) := dk_29 (dk_at dksX0_likely_1 14 rfl rfl)
theorem dX0_likely_37 : decode cX0_likely 37 = .ok (.invokevirtual 290, 3) := dk_182 1 34 (dk_at dksX0_likely_1 15 rfl rfl)
theorem dX0_likely_40 : decode cX0_likely 40 = .ok (.lstore 5, 2) := dk_55 5 (dk_at dksX0_likely_1 18 rfl rfl)
theorem dX0_likely_42 : decode cX0_likely 42 = .ok (.ldc2_w 294, 3) := dk_20 1 38 (dk_at dksX0_likely_1 20 rfl rfl)
theorem dX0_likely_45 : decode cX0_likely 45 = .ok (.iload_n 3, 1) := dk_29 (dk_at dksX0_likely_1 23 rfl rfl)
theorem dX0_likely_46 : decode cX0_likely 46 = .ok (.invokestatic 281, 3) := dk_184 1 25 (dk_at dksX0_likely_2 0 rfl rfl)
theorem dX0_likely_49 : decode cX0_likely 49 = .ok (.lstore 7, 2) := dk_55 7 (dk_at dksX0_likely_2 3 rfl rfl)
theorem dX0_likely_51 : decode cX0_likely 51 = .ok (.lload 7, 2) := dk_22 7 (dk_at dksX0_likely_2 5 rfl rfl)
theorem dX0_likely_53 : decode cX0_likely 53 = .ok (.lload 5, 2) := dk_22 5 (dk_at dksX0_likely_2 7 rfl rfl)
theorem dX0_likely_55 : decode cX0_likely 55 = .ok (.invokestatic 278, 3) := dk_184 1 22 (dk_at dksX0_likely_2 9 rfl rfl)
theorem dX0_likely_58 : decode cX0_likely 58 = .ok (.lstore 9, 2) := dk_55 9 (dk_at dksX0_likely_2 12 rfl rfl)
theorem dX0_likely_60 : decode cX0_likely 60 = .ok (.iload 4, 2) := dk_21 4 (dk_at dksX0_likely_2 14 rfl rfl)
theorem dX0_likely_62 : decode cX0_likely 62 = .ok (.ifCond .eq 11, 3) := dk_153 0 11 (dk_at dksX0_likely_2 16 rfl rfl)
theorem dX0_likely_65 : decode cX0_likely 65 = .ok (.lload 7, 2) := dk_22 7 (dk_at dksX0_likely_2 19 rfl rfl)
theorem dX0_likely_67 : decode cX0_likely 67 = .ok (.lload 9, 2) := dk_22 9 (dk_at dksX0_likely_2 21 rfl rfl)
theorem dX0_likely_69 : decode cX0_likely 69 = .ok (.ldiv, 1) := dk_109 (dk_at dksX0_likely_2 23 rfl rfl)
theorem dX0_likely_70 : decode cX0_likely 70 = .ok (.goto 8, 3) := dk_167 0 8 (dk_at dksX0_likely_3 0 rfl rfl)
theorem dX0_likely_73 : decode cX0_likely 73 = .ok (.lload 5, 2) := dk_22 5 (dk_at dksX0_likely_3 3 rfl rfl)
theorem dX0_likely_75 : decode cX0_likely 75 = .ok (.lload 9, 2) := dk_22 9 (dk_at dksX0_likely_3 5 rfl rfl)
theorem dX0_likely_77 : decode cX0_likely 77 = .ok (.ldiv, 1) := dk_109 (dk_at dksX0_likely_3 7 rfl rfl)
theorem dX0_likely_78 : decode cX0_likely 78 = .ok (.lreturn, 1) := dk_173 (dk_at dksX0_likely_3 8 rfl rfl)
abbrev cX0_laysBars : ByteArray := prog_1_method_50_code
def yX0_laysBars : MethodName := ⟨RX0, "laysBars", "(I)V"⟩
def dkwX0_laysBars_3 : List UInt8 := [167, 255, 191, 177]
abbrev dktX0_laysBars_3 : List UInt8 := dkwX0_laysBars_3 ++ []
def dkwX0_laysBars_2 : List UInt8 := [42, 180, 1, 16, 27, 28, 96, 16, 30, 112, 79, 42, 89, 180, 1, 16, 4, 96, 181, 1, 16, 132, 2, 1]
abbrev dktX0_laysBars_2 : List UInt8 := dkwX0_laysBars_2 ++ dktX0_laysBars_3
def dkwX0_laysBars_1 : List UInt8 := [159, 0, 51, 42, 27, 28, 96, 16, 30, 112, 182, 0, 172, 4, 159, 0, 6, 167, 0, 28, 42, 180, 0, 46]
abbrev dktX0_laysBars_1 : List UInt8 := dkwX0_laysBars_1 ++ dktX0_laysBars_2
def dkwX0_laysBars_0 : List UInt8 := [42, 3, 181, 1, 16, 3, 61, 28, 16, 60, 162, 0, 65, 42, 27, 28, 96, 16, 30, 112, 182, 0, 172, 6]
abbrev dktX0_laysBars_0 : List UInt8 := dkwX0_laysBars_0 ++ dktX0_laysBars_1
theorem dksX0_laysBars_0 : cX0_laysBars.data.toList.drop 0 = dktX0_laysBars_0 := by decide +kernel
theorem dksX0_laysBars_1 : cX0_laysBars.data.toList.drop 24 = dktX0_laysBars_1 := dk_seg dksX0_laysBars_0 24 rfl rfl
theorem dksX0_laysBars_2 : cX0_laysBars.data.toList.drop 48 = dktX0_laysBars_2 := dk_seg dksX0_laysBars_1 24 rfl rfl
theorem dksX0_laysBars_3 : cX0_laysBars.data.toList.drop 72 = dktX0_laysBars_3 := dk_seg dksX0_laysBars_2 24 rfl rfl
theorem dX0_laysBars_0 : decode cX0_laysBars 0 = .ok (.aload_n 0, 1) := dk_42 (dk_at dksX0_laysBars_0 0 rfl rfl)
theorem dX0_laysBars_1 : decode cX0_laysBars 1 = .ok (.iconst 0, 1) := dk_3 (dk_at dksX0_laysBars_0 1 rfl rfl)
theorem dX0_laysBars_2 : decode cX0_laysBars 2 = .ok (.putfield 272, 3) := dk_181 1 16 (dk_at dksX0_laysBars_0 2 rfl rfl)
theorem dX0_laysBars_5 : decode cX0_laysBars 5 = .ok (.iconst 0, 1) := dk_3 (dk_at dksX0_laysBars_0 5 rfl rfl)
theorem dX0_laysBars_6 : decode cX0_laysBars 6 = .ok (.istore_n 2, 1) := dk_61 (dk_at dksX0_laysBars_0 6 rfl rfl)
theorem dX0_laysBars_7 : decode cX0_laysBars 7 = .ok (.iload_n 2, 1) := dk_28 (dk_at dksX0_laysBars_0 7 rfl rfl)
theorem dX0_laysBars_8 : decode cX0_laysBars 8 = .ok (.bipush 60, 2) := dk_16 60 (dk_at dksX0_laysBars_0 8 rfl rfl)
theorem dX0_laysBars_10 : decode cX0_laysBars 10 = .ok (.if_icmp .ge 65, 3) := dk_162 0 65 (dk_at dksX0_laysBars_0 10 rfl rfl)
theorem dX0_laysBars_13 : decode cX0_laysBars 13 = .ok (.aload_n 0, 1) := dk_42 (dk_at dksX0_laysBars_0 13 rfl rfl)
theorem dX0_laysBars_14 : decode cX0_laysBars 14 = .ok (.iload_n 1, 1) := dk_27 (dk_at dksX0_laysBars_0 14 rfl rfl)
theorem dX0_laysBars_15 : decode cX0_laysBars 15 = .ok (.iload_n 2, 1) := dk_28 (dk_at dksX0_laysBars_0 15 rfl rfl)
theorem dX0_laysBars_16 : decode cX0_laysBars 16 = .ok (.iadd, 1) := dk_96 (dk_at dksX0_laysBars_0 16 rfl rfl)
theorem dX0_laysBars_17 : decode cX0_laysBars 17 = .ok (.bipush 30, 2) := dk_16 30 (dk_at dksX0_laysBars_0 17 rfl rfl)
theorem dX0_laysBars_19 : decode cX0_laysBars 19 = .ok (.irem, 1) := dk_112 (dk_at dksX0_laysBars_0 19 rfl rfl)
theorem dX0_laysBars_20 : decode cX0_laysBars 20 = .ok (.invokevirtual 172, 3) := dk_182 0 172 (dk_at dksX0_laysBars_0 20 rfl rfl)
theorem dX0_laysBars_23 : decode cX0_laysBars 23 = .ok (.iconst 3, 1) := dk_6 (dk_at dksX0_laysBars_0 23 rfl rfl)
theorem dX0_laysBars_24 : decode cX0_laysBars 24 = .ok (.if_icmp .eq 51, 3) := dk_159 0 51 (dk_at dksX0_laysBars_1 0 rfl rfl)
theorem dX0_laysBars_27 : decode cX0_laysBars 27 = .ok (.aload_n 0, 1) := dk_42 (dk_at dksX0_laysBars_1 3 rfl rfl)
theorem dX0_laysBars_28 : decode cX0_laysBars 28 = .ok (.iload_n 1, 1) := dk_27 (dk_at dksX0_laysBars_1 4 rfl rfl)
theorem dX0_laysBars_29 : decode cX0_laysBars 29 = .ok (.iload_n 2, 1) := dk_28 (dk_at dksX0_laysBars_1 5 rfl rfl)
theorem dX0_laysBars_30 : decode cX0_laysBars 30 = .ok (.iadd, 1) := dk_96 (dk_at dksX0_laysBars_1 6 rfl rfl)
theorem dX0_laysBars_31 : decode cX0_laysBars 31 = .ok (.bipush 30, 2) := dk_16 30 (dk_at dksX0_laysBars_1 7 rfl rfl)
theorem dX0_laysBars_33 : decode cX0_laysBars 33 = .ok (.irem, 1) := dk_112 (dk_at dksX0_laysBars_1 9 rfl rfl)
theorem dX0_laysBars_34 : decode cX0_laysBars 34 = .ok (.invokevirtual 172, 3) := dk_182 0 172 (dk_at dksX0_laysBars_1 10 rfl rfl)
theorem dX0_laysBars_37 : decode cX0_laysBars 37 = .ok (.iconst 1, 1) := dk_4 (dk_at dksX0_laysBars_1 13 rfl rfl)
theorem dX0_laysBars_38 : decode cX0_laysBars 38 = .ok (.if_icmp .eq 6, 3) := dk_159 0 6 (dk_at dksX0_laysBars_1 14 rfl rfl)
theorem dX0_laysBars_41 : decode cX0_laysBars 41 = .ok (.goto 28, 3) := dk_167 0 28 (dk_at dksX0_laysBars_1 17 rfl rfl)
theorem dX0_laysBars_44 : decode cX0_laysBars 44 = .ok (.aload_n 0, 1) := dk_42 (dk_at dksX0_laysBars_1 20 rfl rfl)
theorem dX0_laysBars_45 : decode cX0_laysBars 45 = .ok (.getfield 46, 3) := dk_180 0 46 (dk_at dksX0_laysBars_1 21 rfl rfl)
theorem dX0_laysBars_48 : decode cX0_laysBars 48 = .ok (.aload_n 0, 1) := dk_42 (dk_at dksX0_laysBars_2 0 rfl rfl)
theorem dX0_laysBars_49 : decode cX0_laysBars 49 = .ok (.getfield 272, 3) := dk_180 1 16 (dk_at dksX0_laysBars_2 1 rfl rfl)
theorem dX0_laysBars_52 : decode cX0_laysBars 52 = .ok (.iload_n 1, 1) := dk_27 (dk_at dksX0_laysBars_2 4 rfl rfl)
theorem dX0_laysBars_53 : decode cX0_laysBars 53 = .ok (.iload_n 2, 1) := dk_28 (dk_at dksX0_laysBars_2 5 rfl rfl)
theorem dX0_laysBars_54 : decode cX0_laysBars 54 = .ok (.iadd, 1) := dk_96 (dk_at dksX0_laysBars_2 6 rfl rfl)
theorem dX0_laysBars_55 : decode cX0_laysBars 55 = .ok (.bipush 30, 2) := dk_16 30 (dk_at dksX0_laysBars_2 7 rfl rfl)
theorem dX0_laysBars_57 : decode cX0_laysBars 57 = .ok (.irem, 1) := dk_112 (dk_at dksX0_laysBars_2 9 rfl rfl)
theorem dX0_laysBars_58 : decode cX0_laysBars 58 = .ok (.iastore, 1) := dk_79 (dk_at dksX0_laysBars_2 10 rfl rfl)
theorem dX0_laysBars_59 : decode cX0_laysBars 59 = .ok (.aload_n 0, 1) := dk_42 (dk_at dksX0_laysBars_2 11 rfl rfl)
theorem dX0_laysBars_60 : decode cX0_laysBars 60 = .ok (.dup, 1) := dk_89 (dk_at dksX0_laysBars_2 12 rfl rfl)
theorem dX0_laysBars_61 : decode cX0_laysBars 61 = .ok (.getfield 272, 3) := dk_180 1 16 (dk_at dksX0_laysBars_2 13 rfl rfl)
theorem dX0_laysBars_64 : decode cX0_laysBars 64 = .ok (.iconst 1, 1) := dk_4 (dk_at dksX0_laysBars_2 16 rfl rfl)
theorem dX0_laysBars_65 : decode cX0_laysBars 65 = .ok (.iadd, 1) := dk_96 (dk_at dksX0_laysBars_2 17 rfl rfl)
theorem dX0_laysBars_66 : decode cX0_laysBars 66 = .ok (.putfield 272, 3) := dk_181 1 16 (dk_at dksX0_laysBars_2 18 rfl rfl)
theorem dX0_laysBars_69 : decode cX0_laysBars 69 = .ok (.iinc 2 1, 3) := dk_132 2 1 (dk_at dksX0_laysBars_2 21 rfl rfl)
theorem dX0_laysBars_72 : decode cX0_laysBars 72 = .ok (.goto (-65), 3) := dk_167 255 191 (dk_at dksX0_laysBars_3 0 rfl rfl)
theorem dX0_laysBars_75 : decode cX0_laysBars 75 = .ok (.return_, 1) := dk_177 (dk_at dksX0_laysBars_3 3 rfl rfl)
abbrev cX0_likeOf : ByteArray := prog_1_method_52_code
def yX0_likeOf : MethodName := ⟨RX0, "likeOf", "(II)J"⟩
def dkwX0_likeOf_3 : List UInt8 := [16, 10, 167, 0, 11, 42, 27, 28, 4, 100, 182, 1, 19, 133, 105, 173]
abbrev dktX0_likeOf_3 : List UInt8 := dkwX0_likeOf_3 ++ []
def dkwX0_likeOf_2 : List UInt8 := [180, 1, 16, 154, 0, 7, 10, 167, 0, 31, 9, 167, 0, 27, 33, 28, 42, 180, 1, 16, 160, 0, 8]
abbrev dktX0_likeOf_2 : List UInt8 := dkwX0_likeOf_2 ++ dktX0_likeOf_3
def dkwX0_likeOf_1 : List UInt8 := [16, 10, 42, 27, 21, 5, 182, 1, 19, 100, 133, 105, 66, 132, 5, 1, 167, 255, 231, 28, 154, 0, 18, 42]
abbrev dktX0_likeOf_1 : List UInt8 := dkwX0_likeOf_1 ++ dktX0_likeOf_2
def dkwX0_likeOf_0 : List UInt8 := [28, 42, 180, 1, 16, 164, 0, 5, 9, 173, 10, 66, 3, 54, 5, 21, 5, 28, 4, 100, 162, 0, 23, 33]
abbrev dktX0_likeOf_0 : List UInt8 := dkwX0_likeOf_0 ++ dktX0_likeOf_1
theorem dksX0_likeOf_0 : cX0_likeOf.data.toList.drop 0 = dktX0_likeOf_0 := by decide +kernel
theorem dksX0_likeOf_1 : cX0_likeOf.data.toList.drop 24 = dktX0_likeOf_1 := dk_seg dksX0_likeOf_0 24 rfl rfl
theorem dksX0_likeOf_2 : cX0_likeOf.data.toList.drop 48 = dktX0_likeOf_2 := dk_seg dksX0_likeOf_1 24 rfl rfl
theorem dksX0_likeOf_3 : cX0_likeOf.data.toList.drop 71 = dktX0_likeOf_3 := dk_seg dksX0_likeOf_2 23 rfl rfl
theorem dX0_likeOf_0 : decode cX0_likeOf 0 = .ok (.iload_n 2, 1) := dk_28 (dk_at dksX0_likeOf_0 0 rfl rfl)
theorem dX0_likeOf_1 : decode cX0_likeOf 1 = .ok (.aload_n 0, 1) := dk_42 (dk_at dksX0_likeOf_0 1 rfl rfl)
theorem dX0_likeOf_2 : decode cX0_likeOf 2 = .ok (.getfield 272, 3) := dk_180 1 16 (dk_at dksX0_likeOf_0 2 rfl rfl)
theorem dX0_likeOf_5 : decode cX0_likeOf 5 = .ok (.if_icmp .le 5, 3) := dk_164 0 5 (dk_at dksX0_likeOf_0 5 rfl rfl)
theorem dX0_likeOf_8 : decode cX0_likeOf 8 = .ok (.lconst 0, 1) := dk_9 (dk_at dksX0_likeOf_0 8 rfl rfl)
theorem dX0_likeOf_9 : decode cX0_likeOf 9 = .ok (.lreturn, 1) := dk_173 (dk_at dksX0_likeOf_0 9 rfl rfl)
theorem dX0_likeOf_10 : decode cX0_likeOf 10 = .ok (.lconst 1, 1) := dk_10 (dk_at dksX0_likeOf_0 10 rfl rfl)
theorem dX0_likeOf_11 : decode cX0_likeOf 11 = .ok (.lstore_n 3, 1) := dk_66 (dk_at dksX0_likeOf_0 11 rfl rfl)
theorem dX0_likeOf_12 : decode cX0_likeOf 12 = .ok (.iconst 0, 1) := dk_3 (dk_at dksX0_likeOf_0 12 rfl rfl)
theorem dX0_likeOf_13 : decode cX0_likeOf 13 = .ok (.istore 5, 2) := dk_54 5 (dk_at dksX0_likeOf_0 13 rfl rfl)
theorem dX0_likeOf_15 : decode cX0_likeOf 15 = .ok (.iload 5, 2) := dk_21 5 (dk_at dksX0_likeOf_0 15 rfl rfl)
theorem dX0_likeOf_17 : decode cX0_likeOf 17 = .ok (.iload_n 2, 1) := dk_28 (dk_at dksX0_likeOf_0 17 rfl rfl)
theorem dX0_likeOf_18 : decode cX0_likeOf 18 = .ok (.iconst 1, 1) := dk_4 (dk_at dksX0_likeOf_0 18 rfl rfl)
theorem dX0_likeOf_19 : decode cX0_likeOf 19 = .ok (.isub, 1) := dk_100 (dk_at dksX0_likeOf_0 19 rfl rfl)
theorem dX0_likeOf_20 : decode cX0_likeOf 20 = .ok (.if_icmp .ge 23, 3) := dk_162 0 23 (dk_at dksX0_likeOf_0 20 rfl rfl)
theorem dX0_likeOf_23 : decode cX0_likeOf 23 = .ok (.lload_n 3, 1) := dk_33 (dk_at dksX0_likeOf_0 23 rfl rfl)
theorem dX0_likeOf_24 : decode cX0_likeOf 24 = .ok (.bipush 10, 2) := dk_16 10 (dk_at dksX0_likeOf_1 0 rfl rfl)
theorem dX0_likeOf_26 : decode cX0_likeOf 26 = .ok (.aload_n 0, 1) := dk_42 (dk_at dksX0_likeOf_1 2 rfl rfl)
theorem dX0_likeOf_27 : decode cX0_likeOf 27 = .ok (.iload_n 1, 1) := dk_27 (dk_at dksX0_likeOf_1 3 rfl rfl)
theorem dX0_likeOf_28 : decode cX0_likeOf 28 = .ok (.iload 5, 2) := dk_21 5 (dk_at dksX0_likeOf_1 4 rfl rfl)
theorem dX0_likeOf_30 : decode cX0_likeOf 30 = .ok (.invokevirtual 275, 3) := dk_182 1 19 (dk_at dksX0_likeOf_1 6 rfl rfl)
theorem dX0_likeOf_33 : decode cX0_likeOf 33 = .ok (.isub, 1) := dk_100 (dk_at dksX0_likeOf_1 9 rfl rfl)
theorem dX0_likeOf_34 : decode cX0_likeOf 34 = .ok (.i2l, 1) := dk_133 (dk_at dksX0_likeOf_1 10 rfl rfl)
theorem dX0_likeOf_35 : decode cX0_likeOf 35 = .ok (.lmul, 1) := dk_105 (dk_at dksX0_likeOf_1 11 rfl rfl)
theorem dX0_likeOf_36 : decode cX0_likeOf 36 = .ok (.lstore_n 3, 1) := dk_66 (dk_at dksX0_likeOf_1 12 rfl rfl)
theorem dX0_likeOf_37 : decode cX0_likeOf 37 = .ok (.iinc 5 1, 3) := dk_132 5 1 (dk_at dksX0_likeOf_1 13 rfl rfl)
theorem dX0_likeOf_40 : decode cX0_likeOf 40 = .ok (.goto (-25), 3) := dk_167 255 231 (dk_at dksX0_likeOf_1 16 rfl rfl)
theorem dX0_likeOf_43 : decode cX0_likeOf 43 = .ok (.iload_n 2, 1) := dk_28 (dk_at dksX0_likeOf_1 19 rfl rfl)
theorem dX0_likeOf_44 : decode cX0_likeOf 44 = .ok (.ifCond .ne 18, 3) := dk_154 0 18 (dk_at dksX0_likeOf_1 20 rfl rfl)
theorem dX0_likeOf_47 : decode cX0_likeOf 47 = .ok (.aload_n 0, 1) := dk_42 (dk_at dksX0_likeOf_1 23 rfl rfl)
theorem dX0_likeOf_48 : decode cX0_likeOf 48 = .ok (.getfield 272, 3) := dk_180 1 16 (dk_at dksX0_likeOf_2 0 rfl rfl)
theorem dX0_likeOf_51 : decode cX0_likeOf 51 = .ok (.ifCond .ne 7, 3) := dk_154 0 7 (dk_at dksX0_likeOf_2 3 rfl rfl)
theorem dX0_likeOf_54 : decode cX0_likeOf 54 = .ok (.lconst 1, 1) := dk_10 (dk_at dksX0_likeOf_2 6 rfl rfl)
theorem dX0_likeOf_55 : decode cX0_likeOf 55 = .ok (.goto 31, 3) := dk_167 0 31 (dk_at dksX0_likeOf_2 7 rfl rfl)
theorem dX0_likeOf_58 : decode cX0_likeOf 58 = .ok (.lconst 0, 1) := dk_9 (dk_at dksX0_likeOf_2 10 rfl rfl)
theorem dX0_likeOf_59 : decode cX0_likeOf 59 = .ok (.goto 27, 3) := dk_167 0 27 (dk_at dksX0_likeOf_2 11 rfl rfl)
theorem dX0_likeOf_62 : decode cX0_likeOf 62 = .ok (.lload_n 3, 1) := dk_33 (dk_at dksX0_likeOf_2 14 rfl rfl)
theorem dX0_likeOf_63 : decode cX0_likeOf 63 = .ok (.iload_n 2, 1) := dk_28 (dk_at dksX0_likeOf_2 15 rfl rfl)
theorem dX0_likeOf_64 : decode cX0_likeOf 64 = .ok (.aload_n 0, 1) := dk_42 (dk_at dksX0_likeOf_2 16 rfl rfl)
theorem dX0_likeOf_65 : decode cX0_likeOf 65 = .ok (.getfield 272, 3) := dk_180 1 16 (dk_at dksX0_likeOf_2 17 rfl rfl)
theorem dX0_likeOf_68 : decode cX0_likeOf 68 = .ok (.if_icmp .ne 8, 3) := dk_160 0 8 (dk_at dksX0_likeOf_2 20 rfl rfl)
theorem dX0_likeOf_71 : decode cX0_likeOf 71 = .ok (.bipush 10, 2) := dk_16 10 (dk_at dksX0_likeOf_3 0 rfl rfl)
theorem dX0_likeOf_73 : decode cX0_likeOf 73 = .ok (.goto 11, 3) := dk_167 0 11 (dk_at dksX0_likeOf_3 2 rfl rfl)
theorem dX0_likeOf_76 : decode cX0_likeOf 76 = .ok (.aload_n 0, 1) := dk_42 (dk_at dksX0_likeOf_3 5 rfl rfl)
theorem dX0_likeOf_77 : decode cX0_likeOf 77 = .ok (.iload_n 1, 1) := dk_27 (dk_at dksX0_likeOf_3 6 rfl rfl)
theorem dX0_likeOf_78 : decode cX0_likeOf 78 = .ok (.iload_n 2, 1) := dk_28 (dk_at dksX0_likeOf_3 7 rfl rfl)
theorem dX0_likeOf_79 : decode cX0_likeOf 79 = .ok (.iconst 1, 1) := dk_4 (dk_at dksX0_likeOf_3 8 rfl rfl)
theorem dX0_likeOf_80 : decode cX0_likeOf 80 = .ok (.isub, 1) := dk_100 (dk_at dksX0_likeOf_3 9 rfl rfl)
theorem dX0_likeOf_81 : decode cX0_likeOf 81 = .ok (.invokevirtual 275, 3) := dk_182 1 19 (dk_at dksX0_likeOf_3 10 rfl rfl)
theorem dX0_likeOf_84 : decode cX0_likeOf 84 = .ok (.i2l, 1) := dk_133 (dk_at dksX0_likeOf_3 13 rfl rfl)
theorem dX0_likeOf_85 : decode cX0_likeOf 85 = .ok (.lmul, 1) := dk_105 (dk_at dksX0_likeOf_3 14 rfl rfl)
theorem dX0_likeOf_86 : decode cX0_likeOf 86 = .ok (.lreturn, 1) := dk_173 (dk_at dksX0_likeOf_3 15 rfl rfl)
abbrev cX0_oddsAt : ByteArray := prog_1_method_51_code
def yX0_oddsAt : MethodName := ⟨RX0, "oddsAt", "(II)I"⟩
def dkwX0_oddsAt_1 : List UInt8 := [182, 0, 151, 172]
abbrev dktX0_oddsAt_1 : List UInt8 := dkwX0_oddsAt_1 ++ []
def dkwX0_oddsAt_0 : List UInt8 := [42, 42, 182, 0, 144, 42, 180, 0, 21, 180, 0, 65, 27, 42, 180, 0, 46, 28, 46, 28, 4, 96]
abbrev dktX0_oddsAt_0 : List UInt8 := dkwX0_oddsAt_0 ++ dktX0_oddsAt_1
theorem dksX0_oddsAt_0 : cX0_oddsAt.data.toList.drop 0 = dktX0_oddsAt_0 := by decide +kernel
theorem dksX0_oddsAt_1 : cX0_oddsAt.data.toList.drop 22 = dktX0_oddsAt_1 := dk_seg dksX0_oddsAt_0 22 rfl rfl
theorem dX0_oddsAt_0 : decode cX0_oddsAt 0 = .ok (.aload_n 0, 1) := dk_42 (dk_at dksX0_oddsAt_0 0 rfl rfl)
theorem dX0_oddsAt_1 : decode cX0_oddsAt 1 = .ok (.aload_n 0, 1) := dk_42 (dk_at dksX0_oddsAt_0 1 rfl rfl)
theorem dX0_oddsAt_2 : decode cX0_oddsAt 2 = .ok (.invokevirtual 144, 3) := dk_182 0 144 (dk_at dksX0_oddsAt_0 2 rfl rfl)
theorem dX0_oddsAt_5 : decode cX0_oddsAt 5 = .ok (.aload_n 0, 1) := dk_42 (dk_at dksX0_oddsAt_0 5 rfl rfl)
theorem dX0_oddsAt_6 : decode cX0_oddsAt 6 = .ok (.getfield 21, 3) := dk_180 0 21 (dk_at dksX0_oddsAt_0 6 rfl rfl)
theorem dX0_oddsAt_9 : decode cX0_oddsAt 9 = .ok (.getfield 65, 3) := dk_180 0 65 (dk_at dksX0_oddsAt_0 9 rfl rfl)
theorem dX0_oddsAt_12 : decode cX0_oddsAt 12 = .ok (.iload_n 1, 1) := dk_27 (dk_at dksX0_oddsAt_0 12 rfl rfl)
theorem dX0_oddsAt_13 : decode cX0_oddsAt 13 = .ok (.aload_n 0, 1) := dk_42 (dk_at dksX0_oddsAt_0 13 rfl rfl)
theorem dX0_oddsAt_14 : decode cX0_oddsAt 14 = .ok (.getfield 46, 3) := dk_180 0 46 (dk_at dksX0_oddsAt_0 14 rfl rfl)
theorem dX0_oddsAt_17 : decode cX0_oddsAt 17 = .ok (.iload_n 2, 1) := dk_28 (dk_at dksX0_oddsAt_0 17 rfl rfl)
theorem dX0_oddsAt_18 : decode cX0_oddsAt 18 = .ok (.iaload, 1) := dk_46 (dk_at dksX0_oddsAt_0 18 rfl rfl)
theorem dX0_oddsAt_19 : decode cX0_oddsAt 19 = .ok (.iload_n 2, 1) := dk_28 (dk_at dksX0_oddsAt_0 19 rfl rfl)
theorem dX0_oddsAt_20 : decode cX0_oddsAt 20 = .ok (.iconst 1, 1) := dk_4 (dk_at dksX0_oddsAt_0 20 rfl rfl)
theorem dX0_oddsAt_21 : decode cX0_oddsAt 21 = .ok (.iadd, 1) := dk_96 (dk_at dksX0_oddsAt_0 21 rfl rfl)
theorem dX0_oddsAt_22 : decode cX0_oddsAt 22 = .ok (.invokevirtual 151, 3) := dk_182 0 151 (dk_at dksX0_oddsAt_1 0 rfl rfl)
theorem dX0_oddsAt_25 : decode cX0_oddsAt 25 = .ok (.ireturn, 1) := dk_172 (dk_at dksX0_oddsAt_1 3 rfl rfl)
abbrev cX0_power : ByteArray := prog_1_method_54_code
def yX0_power : MethodName := ⟨RX0, "power", "(JI)J"⟩
def dkwX0_power_0 : List UInt8 := [28, 154, 0, 7, 10, 167, 0, 12, 30, 30, 28, 4, 100, 184, 1, 25, 105, 173]
abbrev dktX0_power_0 : List UInt8 := dkwX0_power_0 ++ []
theorem dksX0_power_0 : cX0_power.data.toList.drop 0 = dktX0_power_0 := by decide +kernel
theorem dX0_power_0 : decode cX0_power 0 = .ok (.iload_n 2, 1) := dk_28 (dk_at dksX0_power_0 0 rfl rfl)
theorem dX0_power_1 : decode cX0_power 1 = .ok (.ifCond .ne 7, 3) := dk_154 0 7 (dk_at dksX0_power_0 1 rfl rfl)
theorem dX0_power_4 : decode cX0_power 4 = .ok (.lconst 1, 1) := dk_10 (dk_at dksX0_power_0 4 rfl rfl)
theorem dX0_power_5 : decode cX0_power 5 = .ok (.goto 12, 3) := dk_167 0 12 (dk_at dksX0_power_0 5 rfl rfl)
theorem dX0_power_8 : decode cX0_power 8 = .ok (.lload_n 0, 1) := dk_30 (dk_at dksX0_power_0 8 rfl rfl)
theorem dX0_power_9 : decode cX0_power 9 = .ok (.lload_n 0, 1) := dk_30 (dk_at dksX0_power_0 9 rfl rfl)
theorem dX0_power_10 : decode cX0_power 10 = .ok (.iload_n 2, 1) := dk_28 (dk_at dksX0_power_0 10 rfl rfl)
theorem dX0_power_11 : decode cX0_power 11 = .ok (.iconst 1, 1) := dk_4 (dk_at dksX0_power_0 11 rfl rfl)
theorem dX0_power_12 : decode cX0_power 12 = .ok (.isub, 1) := dk_100 (dk_at dksX0_power_0 12 rfl rfl)
theorem dX0_power_13 : decode cX0_power 13 = .ok (.invokestatic 281, 3) := dk_184 1 25 (dk_at dksX0_power_0 13 rfl rfl)
theorem dX0_power_16 : decode cX0_power 16 = .ok (.lmul, 1) := dk_105 (dk_at dksX0_power_0 16 rfl rfl)
theorem dX0_power_17 : decode cX0_power 17 = .ok (.lreturn, 1) := dk_173 (dk_at dksX0_power_0 17 rfl rfl)
abbrev cX0_common : ByteArray := prog_1_method_53_code
def yX0_common : MethodName := ⟨RX0, "common", "(JJ)J"⟩
def dkwX0_common_0 : List UInt8 := [32, 9, 148, 154, 0, 7, 30, 167, 0, 10, 32, 30, 32, 113, 184, 1, 22, 173]
abbrev dktX0_common_0 : List UInt8 := dkwX0_common_0 ++ []
theorem dksX0_common_0 : cX0_common.data.toList.drop 0 = dktX0_common_0 := by decide +kernel
theorem dX0_common_0 : decode cX0_common 0 = .ok (.lload_n 2, 1) := dk_32 (dk_at dksX0_common_0 0 rfl rfl)
theorem dX0_common_1 : decode cX0_common 1 = .ok (.lconst 0, 1) := dk_9 (dk_at dksX0_common_0 1 rfl rfl)
theorem dX0_common_2 : decode cX0_common 2 = .ok (.lcmp, 1) := dk_148 (dk_at dksX0_common_0 2 rfl rfl)
theorem dX0_common_3 : decode cX0_common 3 = .ok (.ifCond .ne 7, 3) := dk_154 0 7 (dk_at dksX0_common_0 3 rfl rfl)
theorem dX0_common_6 : decode cX0_common 6 = .ok (.lload_n 0, 1) := dk_30 (dk_at dksX0_common_0 6 rfl rfl)
theorem dX0_common_7 : decode cX0_common 7 = .ok (.goto 10, 3) := dk_167 0 10 (dk_at dksX0_common_0 7 rfl rfl)
theorem dX0_common_10 : decode cX0_common 10 = .ok (.lload_n 2, 1) := dk_32 (dk_at dksX0_common_0 10 rfl rfl)
theorem dX0_common_11 : decode cX0_common 11 = .ok (.lload_n 0, 1) := dk_30 (dk_at dksX0_common_0 11 rfl rfl)
theorem dX0_common_12 : decode cX0_common 12 = .ok (.lload_n 2, 1) := dk_32 (dk_at dksX0_common_0 12 rfl rfl)
theorem dX0_common_13 : decode cX0_common 13 = .ok (.lrem, 1) := dk_113 (dk_at dksX0_common_0 13 rfl rfl)
theorem dX0_common_14 : decode cX0_common 14 = .ok (.invokestatic 278, 3) := dk_184 1 22 (dk_at dksX0_common_0 14 rfl rfl)
theorem dX0_common_17 : decode cX0_common 17 = .ok (.lreturn, 1) := dk_173 (dk_at dksX0_common_0 17 rfl rfl)
abbrev cX0_start : ByteArray := prog_1_method_56_code
def yX0_start : MethodName := ⟨RX0, "start", "(II)I"⟩
def dkwX0_start_3 : List UInt8 := [167, 255, 214, 29, 172]
abbrev dktX0_start_3 : List UInt8 := dkwX0_start_3 ++ []
def dkwX0_start_2 : List UInt8 := [55, 7, 22, 7, 22, 4, 148, 157, 0, 6, 167, 0, 10, 21, 6, 62, 22, 7, 55, 4, 132, 6, 1]
abbrev dktX0_start_2 : List UInt8 := dkwX0_start_2 ++ dktX0_start_3
def dkwX0_start_1 : List UInt8 := [55, 4, 3, 54, 6, 21, 6, 16, 30, 162, 0, 41, 42, 21, 6, 182, 1, 31, 42, 27, 28, 182, 1, 34]
abbrev dktX0_start_1 : List UInt8 := dkwX0_start_1 ++ dktX0_start_2
def dkwX0_start_0 : List UInt8 := [42, 27, 182, 0, 159, 153, 0, 13, 28, 3, 16, 12, 184, 0, 58, 154, 0, 5, 2, 172, 2, 62, 9]
abbrev dktX0_start_0 : List UInt8 := dkwX0_start_0 ++ dktX0_start_1
theorem dksX0_start_0 : cX0_start.data.toList.drop 0 = dktX0_start_0 := by decide +kernel
theorem dksX0_start_1 : cX0_start.data.toList.drop 23 = dktX0_start_1 := dk_seg dksX0_start_0 23 rfl rfl
theorem dksX0_start_2 : cX0_start.data.toList.drop 47 = dktX0_start_2 := dk_seg dksX0_start_1 24 rfl rfl
theorem dksX0_start_3 : cX0_start.data.toList.drop 70 = dktX0_start_3 := dk_seg dksX0_start_2 23 rfl rfl
theorem dX0_start_0 : decode cX0_start 0 = .ok (.aload_n 0, 1) := dk_42 (dk_at dksX0_start_0 0 rfl rfl)
theorem dX0_start_1 : decode cX0_start 1 = .ok (.iload_n 1, 1) := dk_27 (dk_at dksX0_start_0 1 rfl rfl)
theorem dX0_start_2 : decode cX0_start 2 = .ok (.invokevirtual 159, 3) := dk_182 0 159 (dk_at dksX0_start_0 2 rfl rfl)
theorem dX0_start_5 : decode cX0_start 5 = .ok (.ifCond .eq 13, 3) := dk_153 0 13 (dk_at dksX0_start_0 5 rfl rfl)
theorem dX0_start_8 : decode cX0_start 8 = .ok (.iload_n 2, 1) := dk_28 (dk_at dksX0_start_0 8 rfl rfl)
theorem dX0_start_9 : decode cX0_start 9 = .ok (.iconst 0, 1) := dk_3 (dk_at dksX0_start_0 9 rfl rfl)
theorem dX0_start_10 : decode cX0_start 10 = .ok (.bipush 12, 2) := dk_16 12 (dk_at dksX0_start_0 10 rfl rfl)
theorem dX0_start_12 : decode cX0_start 12 = .ok (.invokestatic 58, 3) := dk_184 0 58 (dk_at dksX0_start_0 12 rfl rfl)
theorem dX0_start_15 : decode cX0_start 15 = .ok (.ifCond .ne 5, 3) := dk_154 0 5 (dk_at dksX0_start_0 15 rfl rfl)
theorem dX0_start_18 : decode cX0_start 18 = .ok (.iconst (-1), 1) := dk_2 (dk_at dksX0_start_0 18 rfl rfl)
theorem dX0_start_19 : decode cX0_start 19 = .ok (.ireturn, 1) := dk_172 (dk_at dksX0_start_0 19 rfl rfl)
theorem dX0_start_20 : decode cX0_start 20 = .ok (.iconst (-1), 1) := dk_2 (dk_at dksX0_start_0 20 rfl rfl)
theorem dX0_start_21 : decode cX0_start 21 = .ok (.istore_n 3, 1) := dk_62 (dk_at dksX0_start_0 21 rfl rfl)
theorem dX0_start_22 : decode cX0_start 22 = .ok (.lconst 0, 1) := dk_9 (dk_at dksX0_start_0 22 rfl rfl)
theorem dX0_start_23 : decode cX0_start 23 = .ok (.lstore 4, 2) := dk_55 4 (dk_at dksX0_start_1 0 rfl rfl)
theorem dX0_start_25 : decode cX0_start 25 = .ok (.iconst 0, 1) := dk_3 (dk_at dksX0_start_1 2 rfl rfl)
theorem dX0_start_26 : decode cX0_start 26 = .ok (.istore 6, 2) := dk_54 6 (dk_at dksX0_start_1 3 rfl rfl)
theorem dX0_start_28 : decode cX0_start 28 = .ok (.iload 6, 2) := dk_21 6 (dk_at dksX0_start_1 5 rfl rfl)
theorem dX0_start_30 : decode cX0_start 30 = .ok (.bipush 30, 2) := dk_16 30 (dk_at dksX0_start_1 7 rfl rfl)
theorem dX0_start_32 : decode cX0_start 32 = .ok (.if_icmp .ge 41, 3) := dk_162 0 41 (dk_at dksX0_start_1 9 rfl rfl)
theorem dX0_start_35 : decode cX0_start 35 = .ok (.aload_n 0, 1) := dk_42 (dk_at dksX0_start_1 12 rfl rfl)
theorem dX0_start_36 : decode cX0_start 36 = .ok (.iload 6, 2) := dk_21 6 (dk_at dksX0_start_1 13 rfl rfl)
theorem dX0_start_38 : decode cX0_start 38 = .ok (.invokevirtual 287, 3) := dk_182 1 31 (dk_at dksX0_start_1 15 rfl rfl)
theorem dX0_start_41 : decode cX0_start 41 = .ok (.aload_n 0, 1) := dk_42 (dk_at dksX0_start_1 18 rfl rfl)
theorem dX0_start_42 : decode cX0_start 42 = .ok (.iload_n 1, 1) := dk_27 (dk_at dksX0_start_1 19 rfl rfl)
theorem dX0_start_43 : decode cX0_start 43 = .ok (.iload_n 2, 1) := dk_28 (dk_at dksX0_start_1 20 rfl rfl)
theorem dX0_start_44 : decode cX0_start 44 = .ok (.invokevirtual 290, 3) := dk_182 1 34 (dk_at dksX0_start_1 21 rfl rfl)
theorem dX0_start_47 : decode cX0_start 47 = .ok (.lstore 7, 2) := dk_55 7 (dk_at dksX0_start_2 0 rfl rfl)
theorem dX0_start_49 : decode cX0_start 49 = .ok (.lload 7, 2) := dk_22 7 (dk_at dksX0_start_2 2 rfl rfl)
theorem dX0_start_51 : decode cX0_start 51 = .ok (.lload 4, 2) := dk_22 4 (dk_at dksX0_start_2 4 rfl rfl)
theorem dX0_start_53 : decode cX0_start 53 = .ok (.lcmp, 1) := dk_148 (dk_at dksX0_start_2 6 rfl rfl)
theorem dX0_start_54 : decode cX0_start 54 = .ok (.ifCond .gt 6, 3) := dk_157 0 6 (dk_at dksX0_start_2 7 rfl rfl)
theorem dX0_start_57 : decode cX0_start 57 = .ok (.goto 10, 3) := dk_167 0 10 (dk_at dksX0_start_2 10 rfl rfl)
theorem dX0_start_60 : decode cX0_start 60 = .ok (.iload 6, 2) := dk_21 6 (dk_at dksX0_start_2 13 rfl rfl)
theorem dX0_start_62 : decode cX0_start 62 = .ok (.istore_n 3, 1) := dk_62 (dk_at dksX0_start_2 15 rfl rfl)
theorem dX0_start_63 : decode cX0_start 63 = .ok (.lload 7, 2) := dk_22 7 (dk_at dksX0_start_2 16 rfl rfl)
theorem dX0_start_65 : decode cX0_start 65 = .ok (.lstore 4, 2) := dk_55 4 (dk_at dksX0_start_2 18 rfl rfl)
theorem dX0_start_67 : decode cX0_start 67 = .ok (.iinc 6 1, 3) := dk_132 6 1 (dk_at dksX0_start_2 20 rfl rfl)
theorem dX0_start_70 : decode cX0_start 70 = .ok (.goto (-42), 3) := dk_167 255 214 (dk_at dksX0_start_3 0 rfl rfl)
theorem dX0_start_73 : decode cX0_start 73 = .ok (.iload_n 3, 1) := dk_29 (dk_at dksX0_start_3 3 rfl rfl)
theorem dX0_start_74 : decode cX0_start 74 = .ok (.ireturn, 1) := dk_172 (dk_at dksX0_start_3 4 rfl rfl)
abbrev cX0_mean : ByteArray := prog_1_method_57_code
def yX0_mean : MethodName := ⟨RX0, "mean", "(IIZ)J"⟩
def dkwX0_mean_5 : List UInt8 := [22, 8, 22, 10, 109, 167, 0, 8, 22, 4, 22, 10, 109, 173]
abbrev dktX0_mean_5 : List UInt8 := dkwX0_mean_5 ++ []
def dkwX0_mean_4 : List UInt8 := [20, 1, 38, 16, 12, 184, 1, 25, 55, 8, 22, 8, 22, 4, 184, 1, 22, 55, 10, 29, 153, 0, 11]
abbrev dktX0_mean_4 : List UInt8 := dkwX0_mean_4 ++ dktX0_mean_5
def dkwX0_mean_3 : List UInt8 := [20, 1, 38, 109, 16, 10, 42, 27, 21, 8, 182, 1, 19, 100, 133, 105, 55, 6, 132, 8, 1, 167, 255, 217]
abbrev dktX0_mean_3 : List UInt8 := dkwX0_mean_3 ++ dktX0_mean_4
def dkwX0_mean_2 : List UInt8 := [55, 6, 3, 54, 8, 21, 8, 42, 180, 1, 16, 162, 0, 36, 22, 4, 22, 6, 97, 55, 4, 22, 6]
abbrev dktX0_mean_2 : List UInt8 := dkwX0_mean_2 ++ dktX0_mean_3
def dkwX0_mean_1 : List UInt8 := [42, 180, 1, 16, 16, 12, 164, 0, 7, 20, 1, 29, 173, 9, 55, 4, 20, 1, 38, 16, 12, 184, 1, 25]
abbrev dktX0_mean_1 : List UInt8 := dkwX0_mean_1 ++ dktX0_mean_2
def dkwX0_mean_0 : List UInt8 := [42, 27, 182, 0, 159, 153, 0, 10, 28, 184, 0, 68, 154, 0, 7, 20, 1, 29, 173, 42, 28, 182, 1, 31]
abbrev dktX0_mean_0 : List UInt8 := dkwX0_mean_0 ++ dktX0_mean_1
theorem dksX0_mean_0 : cX0_mean.data.toList.drop 0 = dktX0_mean_0 := by decide +kernel
theorem dksX0_mean_1 : cX0_mean.data.toList.drop 24 = dktX0_mean_1 := dk_seg dksX0_mean_0 24 rfl rfl
theorem dksX0_mean_2 : cX0_mean.data.toList.drop 48 = dktX0_mean_2 := dk_seg dksX0_mean_1 24 rfl rfl
theorem dksX0_mean_3 : cX0_mean.data.toList.drop 71 = dktX0_mean_3 := dk_seg dksX0_mean_2 23 rfl rfl
theorem dksX0_mean_4 : cX0_mean.data.toList.drop 95 = dktX0_mean_4 := dk_seg dksX0_mean_3 24 rfl rfl
theorem dksX0_mean_5 : cX0_mean.data.toList.drop 118 = dktX0_mean_5 := dk_seg dksX0_mean_4 23 rfl rfl
theorem dX0_mean_0 : decode cX0_mean 0 = .ok (.aload_n 0, 1) := dk_42 (dk_at dksX0_mean_0 0 rfl rfl)
theorem dX0_mean_1 : decode cX0_mean 1 = .ok (.iload_n 1, 1) := dk_27 (dk_at dksX0_mean_0 1 rfl rfl)
theorem dX0_mean_2 : decode cX0_mean 2 = .ok (.invokevirtual 159, 3) := dk_182 0 159 (dk_at dksX0_mean_0 2 rfl rfl)
theorem dX0_mean_5 : decode cX0_mean 5 = .ok (.ifCond .eq 10, 3) := dk_153 0 10 (dk_at dksX0_mean_0 5 rfl rfl)
theorem dX0_mean_8 : decode cX0_mean 8 = .ok (.iload_n 2, 1) := dk_28 (dk_at dksX0_mean_0 8 rfl rfl)
theorem dX0_mean_9 : decode cX0_mean 9 = .ok (.invokestatic 68, 3) := dk_184 0 68 (dk_at dksX0_mean_0 9 rfl rfl)
theorem dX0_mean_12 : decode cX0_mean 12 = .ok (.ifCond .ne 7, 3) := dk_154 0 7 (dk_at dksX0_mean_0 12 rfl rfl)
theorem dX0_mean_15 : decode cX0_mean 15 = .ok (.ldc2_w 285, 3) := dk_20 1 29 (dk_at dksX0_mean_0 15 rfl rfl)
theorem dX0_mean_18 : decode cX0_mean 18 = .ok (.lreturn, 1) := dk_173 (dk_at dksX0_mean_0 18 rfl rfl)
theorem dX0_mean_19 : decode cX0_mean 19 = .ok (.aload_n 0, 1) := dk_42 (dk_at dksX0_mean_0 19 rfl rfl)
theorem dX0_mean_20 : decode cX0_mean 20 = .ok (.iload_n 2, 1) := dk_28 (dk_at dksX0_mean_0 20 rfl rfl)
theorem dX0_mean_21 : decode cX0_mean 21 = .ok (.invokevirtual 287, 3) := dk_182 1 31 (dk_at dksX0_mean_0 21 rfl rfl)
theorem dX0_mean_24 : decode cX0_mean 24 = .ok (.aload_n 0, 1) := dk_42 (dk_at dksX0_mean_1 0 rfl rfl)
theorem dX0_mean_25 : decode cX0_mean 25 = .ok (.getfield 272, 3) := dk_180 1 16 (dk_at dksX0_mean_1 1 rfl rfl)
theorem dX0_mean_28 : decode cX0_mean 28 = .ok (.bipush 12, 2) := dk_16 12 (dk_at dksX0_mean_1 4 rfl rfl)
theorem dX0_mean_30 : decode cX0_mean 30 = .ok (.if_icmp .le 7, 3) := dk_164 0 7 (dk_at dksX0_mean_1 6 rfl rfl)
theorem dX0_mean_33 : decode cX0_mean 33 = .ok (.ldc2_w 285, 3) := dk_20 1 29 (dk_at dksX0_mean_1 9 rfl rfl)
theorem dX0_mean_36 : decode cX0_mean 36 = .ok (.lreturn, 1) := dk_173 (dk_at dksX0_mean_1 12 rfl rfl)
theorem dX0_mean_37 : decode cX0_mean 37 = .ok (.lconst 0, 1) := dk_9 (dk_at dksX0_mean_1 13 rfl rfl)
theorem dX0_mean_38 : decode cX0_mean 38 = .ok (.lstore 4, 2) := dk_55 4 (dk_at dksX0_mean_1 14 rfl rfl)
theorem dX0_mean_40 : decode cX0_mean 40 = .ok (.ldc2_w 294, 3) := dk_20 1 38 (dk_at dksX0_mean_1 16 rfl rfl)
theorem dX0_mean_43 : decode cX0_mean 43 = .ok (.bipush 12, 2) := dk_16 12 (dk_at dksX0_mean_1 19 rfl rfl)
theorem dX0_mean_45 : decode cX0_mean 45 = .ok (.invokestatic 281, 3) := dk_184 1 25 (dk_at dksX0_mean_1 21 rfl rfl)
theorem dX0_mean_48 : decode cX0_mean 48 = .ok (.lstore 6, 2) := dk_55 6 (dk_at dksX0_mean_2 0 rfl rfl)
theorem dX0_mean_50 : decode cX0_mean 50 = .ok (.iconst 0, 1) := dk_3 (dk_at dksX0_mean_2 2 rfl rfl)
theorem dX0_mean_51 : decode cX0_mean 51 = .ok (.istore 8, 2) := dk_54 8 (dk_at dksX0_mean_2 3 rfl rfl)
theorem dX0_mean_53 : decode cX0_mean 53 = .ok (.iload 8, 2) := dk_21 8 (dk_at dksX0_mean_2 5 rfl rfl)
theorem dX0_mean_55 : decode cX0_mean 55 = .ok (.aload_n 0, 1) := dk_42 (dk_at dksX0_mean_2 7 rfl rfl)
theorem dX0_mean_56 : decode cX0_mean 56 = .ok (.getfield 272, 3) := dk_180 1 16 (dk_at dksX0_mean_2 8 rfl rfl)
theorem dX0_mean_59 : decode cX0_mean 59 = .ok (.if_icmp .ge 36, 3) := dk_162 0 36 (dk_at dksX0_mean_2 11 rfl rfl)
theorem dX0_mean_62 : decode cX0_mean 62 = .ok (.lload 4, 2) := dk_22 4 (dk_at dksX0_mean_2 14 rfl rfl)
theorem dX0_mean_64 : decode cX0_mean 64 = .ok (.lload 6, 2) := dk_22 6 (dk_at dksX0_mean_2 16 rfl rfl)
theorem dX0_mean_66 : decode cX0_mean 66 = .ok (.ladd, 1) := dk_97 (dk_at dksX0_mean_2 18 rfl rfl)
theorem dX0_mean_67 : decode cX0_mean 67 = .ok (.lstore 4, 2) := dk_55 4 (dk_at dksX0_mean_2 19 rfl rfl)
theorem dX0_mean_69 : decode cX0_mean 69 = .ok (.lload 6, 2) := dk_22 6 (dk_at dksX0_mean_2 21 rfl rfl)
theorem dX0_mean_71 : decode cX0_mean 71 = .ok (.ldc2_w 294, 3) := dk_20 1 38 (dk_at dksX0_mean_3 0 rfl rfl)
theorem dX0_mean_74 : decode cX0_mean 74 = .ok (.ldiv, 1) := dk_109 (dk_at dksX0_mean_3 3 rfl rfl)
theorem dX0_mean_75 : decode cX0_mean 75 = .ok (.bipush 10, 2) := dk_16 10 (dk_at dksX0_mean_3 4 rfl rfl)
theorem dX0_mean_77 : decode cX0_mean 77 = .ok (.aload_n 0, 1) := dk_42 (dk_at dksX0_mean_3 6 rfl rfl)
theorem dX0_mean_78 : decode cX0_mean 78 = .ok (.iload_n 1, 1) := dk_27 (dk_at dksX0_mean_3 7 rfl rfl)
theorem dX0_mean_79 : decode cX0_mean 79 = .ok (.iload 8, 2) := dk_21 8 (dk_at dksX0_mean_3 8 rfl rfl)
theorem dX0_mean_81 : decode cX0_mean 81 = .ok (.invokevirtual 275, 3) := dk_182 1 19 (dk_at dksX0_mean_3 10 rfl rfl)
theorem dX0_mean_84 : decode cX0_mean 84 = .ok (.isub, 1) := dk_100 (dk_at dksX0_mean_3 13 rfl rfl)
theorem dX0_mean_85 : decode cX0_mean 85 = .ok (.i2l, 1) := dk_133 (dk_at dksX0_mean_3 14 rfl rfl)
theorem dX0_mean_86 : decode cX0_mean 86 = .ok (.lmul, 1) := dk_105 (dk_at dksX0_mean_3 15 rfl rfl)
theorem dX0_mean_87 : decode cX0_mean 87 = .ok (.lstore 6, 2) := dk_55 6 (dk_at dksX0_mean_3 16 rfl rfl)
theorem dX0_mean_89 : decode cX0_mean 89 = .ok (.iinc 8 1, 3) := dk_132 8 1 (dk_at dksX0_mean_3 18 rfl rfl)
theorem dX0_mean_92 : decode cX0_mean 92 = .ok (.goto (-39), 3) := dk_167 255 217 (dk_at dksX0_mean_3 21 rfl rfl)
theorem dX0_mean_95 : decode cX0_mean 95 = .ok (.ldc2_w 294, 3) := dk_20 1 38 (dk_at dksX0_mean_4 0 rfl rfl)
theorem dX0_mean_98 : decode cX0_mean 98 = .ok (.bipush 12, 2) := dk_16 12 (dk_at dksX0_mean_4 3 rfl rfl)
theorem dX0_mean_100 : decode cX0_mean 100 = .ok (.invokestatic 281, 3) := dk_184 1 25 (dk_at dksX0_mean_4 5 rfl rfl)
theorem dX0_mean_103 : decode cX0_mean 103 = .ok (.lstore 8, 2) := dk_55 8 (dk_at dksX0_mean_4 8 rfl rfl)
theorem dX0_mean_105 : decode cX0_mean 105 = .ok (.lload 8, 2) := dk_22 8 (dk_at dksX0_mean_4 10 rfl rfl)
theorem dX0_mean_107 : decode cX0_mean 107 = .ok (.lload 4, 2) := dk_22 4 (dk_at dksX0_mean_4 12 rfl rfl)
theorem dX0_mean_109 : decode cX0_mean 109 = .ok (.invokestatic 278, 3) := dk_184 1 22 (dk_at dksX0_mean_4 14 rfl rfl)
theorem dX0_mean_112 : decode cX0_mean 112 = .ok (.lstore 10, 2) := dk_55 10 (dk_at dksX0_mean_4 17 rfl rfl)
theorem dX0_mean_114 : decode cX0_mean 114 = .ok (.iload_n 3, 1) := dk_29 (dk_at dksX0_mean_4 19 rfl rfl)
theorem dX0_mean_115 : decode cX0_mean 115 = .ok (.ifCond .eq 11, 3) := dk_153 0 11 (dk_at dksX0_mean_4 20 rfl rfl)
theorem dX0_mean_118 : decode cX0_mean 118 = .ok (.lload 8, 2) := dk_22 8 (dk_at dksX0_mean_5 0 rfl rfl)
theorem dX0_mean_120 : decode cX0_mean 120 = .ok (.lload 10, 2) := dk_22 10 (dk_at dksX0_mean_5 2 rfl rfl)
theorem dX0_mean_122 : decode cX0_mean 122 = .ok (.ldiv, 1) := dk_109 (dk_at dksX0_mean_5 4 rfl rfl)
theorem dX0_mean_123 : decode cX0_mean 123 = .ok (.goto 8, 3) := dk_167 0 8 (dk_at dksX0_mean_5 5 rfl rfl)
theorem dX0_mean_126 : decode cX0_mean 126 = .ok (.lload 4, 2) := dk_22 4 (dk_at dksX0_mean_5 8 rfl rfl)
theorem dX0_mean_128 : decode cX0_mean 128 = .ok (.lload 10, 2) := dk_22 10 (dk_at dksX0_mean_5 10 rfl rfl)
theorem dX0_mean_130 : decode cX0_mean 130 = .ok (.ldiv, 1) := dk_109 (dk_at dksX0_mean_5 12 rfl rfl)
theorem dX0_mean_131 : decode cX0_mean 131 = .ok (.lreturn, 1) := dk_173 (dk_at dksX0_mean_5 13 rfl rfl)
abbrev cX0_which : ByteArray := prog_1_method_59_code
def yX0_which : MethodName := ⟨RX0, "which", "(III)I"⟩
def dkwX0_which_4 : List UInt8 := [22, 8, 55, 4, 132, 7, 1, 167, 255, 202, 21, 6, 172]
abbrev dktX0_which_4 : List UInt8 := dkwX0_which_4 ++ []
def dkwX0_which_3 : List UInt8 := [182, 1, 40, 167, 0, 4, 9, 55, 8, 22, 8, 22, 4, 148, 157, 0, 6, 167, 0, 11, 21, 7, 54, 6]
abbrev dktX0_which_3 : List UInt8 := dkwX0_which_3 ++ dktX0_which_4
def dkwX0_which_2 : List UInt8 := [21, 7, 16, 30, 162, 0, 53, 42, 21, 7, 182, 0, 172, 4, 160, 0, 15, 42, 27, 28, 29, 21, 7]
abbrev dktX0_which_2 : List UInt8 := dkwX0_which_2 ++ dktX0_which_3
def dkwX0_which_1 : List UInt8 := [154, 0, 5, 2, 172, 42, 28, 182, 1, 31, 42, 27, 29, 182, 1, 34, 55, 4, 2, 54, 6, 3, 54, 7]
abbrev dktX0_which_1 : List UInt8 := dkwX0_which_1 ++ dktX0_which_2
def dkwX0_which_0 : List UInt8 := [42, 27, 182, 0, 159, 153, 0, 20, 28, 184, 0, 68, 153, 0, 13, 29, 3, 16, 12, 184, 0, 58]
abbrev dktX0_which_0 : List UInt8 := dkwX0_which_0 ++ dktX0_which_1
theorem dksX0_which_0 : cX0_which.data.toList.drop 0 = dktX0_which_0 := by decide +kernel
theorem dksX0_which_1 : cX0_which.data.toList.drop 22 = dktX0_which_1 := dk_seg dksX0_which_0 22 rfl rfl
theorem dksX0_which_2 : cX0_which.data.toList.drop 46 = dktX0_which_2 := dk_seg dksX0_which_1 24 rfl rfl
theorem dksX0_which_3 : cX0_which.data.toList.drop 69 = dktX0_which_3 := dk_seg dksX0_which_2 23 rfl rfl
theorem dksX0_which_4 : cX0_which.data.toList.drop 93 = dktX0_which_4 := dk_seg dksX0_which_3 24 rfl rfl
theorem dX0_which_0 : decode cX0_which 0 = .ok (.aload_n 0, 1) := dk_42 (dk_at dksX0_which_0 0 rfl rfl)
theorem dX0_which_1 : decode cX0_which 1 = .ok (.iload_n 1, 1) := dk_27 (dk_at dksX0_which_0 1 rfl rfl)
theorem dX0_which_2 : decode cX0_which 2 = .ok (.invokevirtual 159, 3) := dk_182 0 159 (dk_at dksX0_which_0 2 rfl rfl)
theorem dX0_which_5 : decode cX0_which 5 = .ok (.ifCond .eq 20, 3) := dk_153 0 20 (dk_at dksX0_which_0 5 rfl rfl)
theorem dX0_which_8 : decode cX0_which 8 = .ok (.iload_n 2, 1) := dk_28 (dk_at dksX0_which_0 8 rfl rfl)
theorem dX0_which_9 : decode cX0_which 9 = .ok (.invokestatic 68, 3) := dk_184 0 68 (dk_at dksX0_which_0 9 rfl rfl)
theorem dX0_which_12 : decode cX0_which 12 = .ok (.ifCond .eq 13, 3) := dk_153 0 13 (dk_at dksX0_which_0 12 rfl rfl)
theorem dX0_which_15 : decode cX0_which 15 = .ok (.iload_n 3, 1) := dk_29 (dk_at dksX0_which_0 15 rfl rfl)
theorem dX0_which_16 : decode cX0_which 16 = .ok (.iconst 0, 1) := dk_3 (dk_at dksX0_which_0 16 rfl rfl)
theorem dX0_which_17 : decode cX0_which 17 = .ok (.bipush 12, 2) := dk_16 12 (dk_at dksX0_which_0 17 rfl rfl)
theorem dX0_which_19 : decode cX0_which 19 = .ok (.invokestatic 58, 3) := dk_184 0 58 (dk_at dksX0_which_0 19 rfl rfl)
theorem dX0_which_22 : decode cX0_which 22 = .ok (.ifCond .ne 5, 3) := dk_154 0 5 (dk_at dksX0_which_1 0 rfl rfl)
theorem dX0_which_25 : decode cX0_which 25 = .ok (.iconst (-1), 1) := dk_2 (dk_at dksX0_which_1 3 rfl rfl)
theorem dX0_which_26 : decode cX0_which 26 = .ok (.ireturn, 1) := dk_172 (dk_at dksX0_which_1 4 rfl rfl)
theorem dX0_which_27 : decode cX0_which 27 = .ok (.aload_n 0, 1) := dk_42 (dk_at dksX0_which_1 5 rfl rfl)
theorem dX0_which_28 : decode cX0_which 28 = .ok (.iload_n 2, 1) := dk_28 (dk_at dksX0_which_1 6 rfl rfl)
theorem dX0_which_29 : decode cX0_which 29 = .ok (.invokevirtual 287, 3) := dk_182 1 31 (dk_at dksX0_which_1 7 rfl rfl)
theorem dX0_which_32 : decode cX0_which 32 = .ok (.aload_n 0, 1) := dk_42 (dk_at dksX0_which_1 10 rfl rfl)
theorem dX0_which_33 : decode cX0_which 33 = .ok (.iload_n 1, 1) := dk_27 (dk_at dksX0_which_1 11 rfl rfl)
theorem dX0_which_34 : decode cX0_which 34 = .ok (.iload_n 3, 1) := dk_29 (dk_at dksX0_which_1 12 rfl rfl)
theorem dX0_which_35 : decode cX0_which 35 = .ok (.invokevirtual 290, 3) := dk_182 1 34 (dk_at dksX0_which_1 13 rfl rfl)
theorem dX0_which_38 : decode cX0_which 38 = .ok (.lstore 4, 2) := dk_55 4 (dk_at dksX0_which_1 16 rfl rfl)
theorem dX0_which_40 : decode cX0_which 40 = .ok (.iconst (-1), 1) := dk_2 (dk_at dksX0_which_1 18 rfl rfl)
theorem dX0_which_41 : decode cX0_which 41 = .ok (.istore 6, 2) := dk_54 6 (dk_at dksX0_which_1 19 rfl rfl)
theorem dX0_which_43 : decode cX0_which 43 = .ok (.iconst 0, 1) := dk_3 (dk_at dksX0_which_1 21 rfl rfl)
theorem dX0_which_44 : decode cX0_which 44 = .ok (.istore 7, 2) := dk_54 7 (dk_at dksX0_which_1 22 rfl rfl)
theorem dX0_which_46 : decode cX0_which 46 = .ok (.iload 7, 2) := dk_21 7 (dk_at dksX0_which_2 0 rfl rfl)
theorem dX0_which_48 : decode cX0_which 48 = .ok (.bipush 30, 2) := dk_16 30 (dk_at dksX0_which_2 2 rfl rfl)
theorem dX0_which_50 : decode cX0_which 50 = .ok (.if_icmp .ge 53, 3) := dk_162 0 53 (dk_at dksX0_which_2 4 rfl rfl)
theorem dX0_which_53 : decode cX0_which 53 = .ok (.aload_n 0, 1) := dk_42 (dk_at dksX0_which_2 7 rfl rfl)
theorem dX0_which_54 : decode cX0_which 54 = .ok (.iload 7, 2) := dk_21 7 (dk_at dksX0_which_2 8 rfl rfl)
theorem dX0_which_56 : decode cX0_which 56 = .ok (.invokevirtual 172, 3) := dk_182 0 172 (dk_at dksX0_which_2 10 rfl rfl)
theorem dX0_which_59 : decode cX0_which 59 = .ok (.iconst 1, 1) := dk_4 (dk_at dksX0_which_2 13 rfl rfl)
theorem dX0_which_60 : decode cX0_which 60 = .ok (.if_icmp .ne 15, 3) := dk_160 0 15 (dk_at dksX0_which_2 14 rfl rfl)
theorem dX0_which_63 : decode cX0_which 63 = .ok (.aload_n 0, 1) := dk_42 (dk_at dksX0_which_2 17 rfl rfl)
theorem dX0_which_64 : decode cX0_which 64 = .ok (.iload_n 1, 1) := dk_27 (dk_at dksX0_which_2 18 rfl rfl)
theorem dX0_which_65 : decode cX0_which 65 = .ok (.iload_n 2, 1) := dk_28 (dk_at dksX0_which_2 19 rfl rfl)
theorem dX0_which_66 : decode cX0_which 66 = .ok (.iload_n 3, 1) := dk_29 (dk_at dksX0_which_2 20 rfl rfl)
theorem dX0_which_67 : decode cX0_which 67 = .ok (.iload 7, 2) := dk_21 7 (dk_at dksX0_which_2 21 rfl rfl)
theorem dX0_which_69 : decode cX0_which 69 = .ok (.invokevirtual 296, 3) := dk_182 1 40 (dk_at dksX0_which_3 0 rfl rfl)
theorem dX0_which_72 : decode cX0_which 72 = .ok (.goto 4, 3) := dk_167 0 4 (dk_at dksX0_which_3 3 rfl rfl)
theorem dX0_which_75 : decode cX0_which 75 = .ok (.lconst 0, 1) := dk_9 (dk_at dksX0_which_3 6 rfl rfl)
theorem dX0_which_76 : decode cX0_which 76 = .ok (.lstore 8, 2) := dk_55 8 (dk_at dksX0_which_3 7 rfl rfl)
theorem dX0_which_78 : decode cX0_which 78 = .ok (.lload 8, 2) := dk_22 8 (dk_at dksX0_which_3 9 rfl rfl)
theorem dX0_which_80 : decode cX0_which 80 = .ok (.lload 4, 2) := dk_22 4 (dk_at dksX0_which_3 11 rfl rfl)
theorem dX0_which_82 : decode cX0_which 82 = .ok (.lcmp, 1) := dk_148 (dk_at dksX0_which_3 13 rfl rfl)
theorem dX0_which_83 : decode cX0_which 83 = .ok (.ifCond .gt 6, 3) := dk_157 0 6 (dk_at dksX0_which_3 14 rfl rfl)
theorem dX0_which_86 : decode cX0_which 86 = .ok (.goto 11, 3) := dk_167 0 11 (dk_at dksX0_which_3 17 rfl rfl)
theorem dX0_which_89 : decode cX0_which 89 = .ok (.iload 7, 2) := dk_21 7 (dk_at dksX0_which_3 20 rfl rfl)
theorem dX0_which_91 : decode cX0_which 91 = .ok (.istore 6, 2) := dk_54 6 (dk_at dksX0_which_3 22 rfl rfl)
theorem dX0_which_93 : decode cX0_which 93 = .ok (.lload 8, 2) := dk_22 8 (dk_at dksX0_which_4 0 rfl rfl)
theorem dX0_which_95 : decode cX0_which 95 = .ok (.lstore 4, 2) := dk_55 4 (dk_at dksX0_which_4 2 rfl rfl)
theorem dX0_which_97 : decode cX0_which 97 = .ok (.iinc 7 1, 3) := dk_132 7 1 (dk_at dksX0_which_4 4 rfl rfl)
theorem dX0_which_100 : decode cX0_which 100 = .ok (.goto (-54), 3) := dk_167 255 202 (dk_at dksX0_which_4 7 rfl rfl)
theorem dX0_which_103 : decode cX0_which 103 = .ok (.iload 6, 2) := dk_21 6 (dk_at dksX0_which_4 10 rfl rfl)
theorem dX0_which_105 : decode cX0_which 105 = .ok (.ireturn, 1) := dk_172 (dk_at dksX0_which_4 12 rfl rfl)
abbrev cX0_likeWithout : ByteArray := prog_1_method_58_code
def yX0_likeWithout : MethodName := ⟨RX0, "likeWithout", "(IIII)J"⟩
def dkwX0_likeWithout_2 : List UInt8 := [79, 22, 6, 173]
abbrev dktX0_likeWithout_2 : List UInt8 := dkwX0_likeWithout_2 ++ []
def dkwX0_likeWithout_1 : List UInt8 := [182, 1, 31, 42, 27, 29, 182, 1, 34, 55, 6, 42, 180, 0, 21, 180, 0, 65, 5, 21, 4, 96, 21, 5]
abbrev dktX0_likeWithout_1 : List UInt8 := dkwX0_likeWithout_1 ++ dktX0_likeWithout_2
def dkwX0_likeWithout_0 : List UInt8 := [42, 21, 4, 182, 0, 172, 54, 5, 42, 180, 0, 21, 180, 0, 65, 5, 21, 4, 96, 3, 79, 42, 28]
abbrev dktX0_likeWithout_0 : List UInt8 := dkwX0_likeWithout_0 ++ dktX0_likeWithout_1
theorem dksX0_likeWithout_0 : cX0_likeWithout.data.toList.drop 0 = dktX0_likeWithout_0 := by decide +kernel
theorem dksX0_likeWithout_1 : cX0_likeWithout.data.toList.drop 23 = dktX0_likeWithout_1 := dk_seg dksX0_likeWithout_0 23 rfl rfl
theorem dksX0_likeWithout_2 : cX0_likeWithout.data.toList.drop 47 = dktX0_likeWithout_2 := dk_seg dksX0_likeWithout_1 24 rfl rfl
theorem dX0_likeWithout_0 : decode cX0_likeWithout 0 = .ok (.aload_n 0, 1) := dk_42 (dk_at dksX0_likeWithout_0 0 rfl rfl)
theorem dX0_likeWithout_1 : decode cX0_likeWithout 1 = .ok (.iload 4, 2) := dk_21 4 (dk_at dksX0_likeWithout_0 1 rfl rfl)
theorem dX0_likeWithout_3 : decode cX0_likeWithout 3 = .ok (.invokevirtual 172, 3) := dk_182 0 172 (dk_at dksX0_likeWithout_0 3 rfl rfl)
theorem dX0_likeWithout_6 : decode cX0_likeWithout 6 = .ok (.istore 5, 2) := dk_54 5 (dk_at dksX0_likeWithout_0 6 rfl rfl)
theorem dX0_likeWithout_8 : decode cX0_likeWithout 8 = .ok (.aload_n 0, 1) := dk_42 (dk_at dksX0_likeWithout_0 8 rfl rfl)
theorem dX0_likeWithout_9 : decode cX0_likeWithout 9 = .ok (.getfield 21, 3) := dk_180 0 21 (dk_at dksX0_likeWithout_0 9 rfl rfl)
theorem dX0_likeWithout_12 : decode cX0_likeWithout 12 = .ok (.getfield 65, 3) := dk_180 0 65 (dk_at dksX0_likeWithout_0 12 rfl rfl)
theorem dX0_likeWithout_15 : decode cX0_likeWithout 15 = .ok (.iconst 2, 1) := dk_5 (dk_at dksX0_likeWithout_0 15 rfl rfl)
theorem dX0_likeWithout_16 : decode cX0_likeWithout 16 = .ok (.iload 4, 2) := dk_21 4 (dk_at dksX0_likeWithout_0 16 rfl rfl)
theorem dX0_likeWithout_18 : decode cX0_likeWithout 18 = .ok (.iadd, 1) := dk_96 (dk_at dksX0_likeWithout_0 18 rfl rfl)
theorem dX0_likeWithout_19 : decode cX0_likeWithout 19 = .ok (.iconst 0, 1) := dk_3 (dk_at dksX0_likeWithout_0 19 rfl rfl)
theorem dX0_likeWithout_20 : decode cX0_likeWithout 20 = .ok (.iastore, 1) := dk_79 (dk_at dksX0_likeWithout_0 20 rfl rfl)
theorem dX0_likeWithout_21 : decode cX0_likeWithout 21 = .ok (.aload_n 0, 1) := dk_42 (dk_at dksX0_likeWithout_0 21 rfl rfl)
theorem dX0_likeWithout_22 : decode cX0_likeWithout 22 = .ok (.iload_n 2, 1) := dk_28 (dk_at dksX0_likeWithout_0 22 rfl rfl)
theorem dX0_likeWithout_23 : decode cX0_likeWithout 23 = .ok (.invokevirtual 287, 3) := dk_182 1 31 (dk_at dksX0_likeWithout_1 0 rfl rfl)
theorem dX0_likeWithout_26 : decode cX0_likeWithout 26 = .ok (.aload_n 0, 1) := dk_42 (dk_at dksX0_likeWithout_1 3 rfl rfl)
theorem dX0_likeWithout_27 : decode cX0_likeWithout 27 = .ok (.iload_n 1, 1) := dk_27 (dk_at dksX0_likeWithout_1 4 rfl rfl)
theorem dX0_likeWithout_28 : decode cX0_likeWithout 28 = .ok (.iload_n 3, 1) := dk_29 (dk_at dksX0_likeWithout_1 5 rfl rfl)
theorem dX0_likeWithout_29 : decode cX0_likeWithout 29 = .ok (.invokevirtual 290, 3) := dk_182 1 34 (dk_at dksX0_likeWithout_1 6 rfl rfl)
theorem dX0_likeWithout_32 : decode cX0_likeWithout 32 = .ok (.lstore 6, 2) := dk_55 6 (dk_at dksX0_likeWithout_1 9 rfl rfl)
theorem dX0_likeWithout_34 : decode cX0_likeWithout 34 = .ok (.aload_n 0, 1) := dk_42 (dk_at dksX0_likeWithout_1 11 rfl rfl)
theorem dX0_likeWithout_35 : decode cX0_likeWithout 35 = .ok (.getfield 21, 3) := dk_180 0 21 (dk_at dksX0_likeWithout_1 12 rfl rfl)
theorem dX0_likeWithout_38 : decode cX0_likeWithout 38 = .ok (.getfield 65, 3) := dk_180 0 65 (dk_at dksX0_likeWithout_1 15 rfl rfl)
theorem dX0_likeWithout_41 : decode cX0_likeWithout 41 = .ok (.iconst 2, 1) := dk_5 (dk_at dksX0_likeWithout_1 18 rfl rfl)
theorem dX0_likeWithout_42 : decode cX0_likeWithout 42 = .ok (.iload 4, 2) := dk_21 4 (dk_at dksX0_likeWithout_1 19 rfl rfl)
theorem dX0_likeWithout_44 : decode cX0_likeWithout 44 = .ok (.iadd, 1) := dk_96 (dk_at dksX0_likeWithout_1 21 rfl rfl)
theorem dX0_likeWithout_45 : decode cX0_likeWithout 45 = .ok (.iload 5, 2) := dk_21 5 (dk_at dksX0_likeWithout_1 22 rfl rfl)
theorem dX0_likeWithout_47 : decode cX0_likeWithout 47 = .ok (.iastore, 1) := dk_79 (dk_at dksX0_likeWithout_2 0 rfl rfl)
theorem dX0_likeWithout_48 : decode cX0_likeWithout 48 = .ok (.lload 6, 2) := dk_22 6 (dk_at dksX0_likeWithout_2 1 rfl rfl)
theorem dX0_likeWithout_50 : decode cX0_likeWithout 50 = .ok (.lreturn, 1) := dk_173 (dk_at dksX0_likeWithout_2 3 rfl rfl)
abbrev cX0_nth : ByteArray := prog_1_method_60_code
def yX0_nth : MethodName := ⟨RX0, "nth", "(II)I"⟩
def dkwX0_nth_1 : List UInt8 := [28, 42, 180, 1, 16, 164, 0, 7, 2, 167, 0, 11, 42, 180, 0, 46, 28, 4, 100, 46, 172]
abbrev dktX0_nth_1 : List UInt8 := dkwX0_nth_1 ++ []
def dkwX0_nth_0 : List UInt8 := [27, 184, 0, 68, 153, 0, 13, 28, 4, 16, 60, 184, 0, 58, 154, 0, 5, 2, 172, 42, 27, 182, 1, 31]
abbrev dktX0_nth_0 : List UInt8 := dkwX0_nth_0 ++ dktX0_nth_1
theorem dksX0_nth_0 : cX0_nth.data.toList.drop 0 = dktX0_nth_0 := by decide +kernel
theorem dksX0_nth_1 : cX0_nth.data.toList.drop 24 = dktX0_nth_1 := dk_seg dksX0_nth_0 24 rfl rfl
theorem dX0_nth_0 : decode cX0_nth 0 = .ok (.iload_n 1, 1) := dk_27 (dk_at dksX0_nth_0 0 rfl rfl)
theorem dX0_nth_1 : decode cX0_nth 1 = .ok (.invokestatic 68, 3) := dk_184 0 68 (dk_at dksX0_nth_0 1 rfl rfl)
theorem dX0_nth_4 : decode cX0_nth 4 = .ok (.ifCond .eq 13, 3) := dk_153 0 13 (dk_at dksX0_nth_0 4 rfl rfl)
theorem dX0_nth_7 : decode cX0_nth 7 = .ok (.iload_n 2, 1) := dk_28 (dk_at dksX0_nth_0 7 rfl rfl)
theorem dX0_nth_8 : decode cX0_nth 8 = .ok (.iconst 1, 1) := dk_4 (dk_at dksX0_nth_0 8 rfl rfl)
theorem dX0_nth_9 : decode cX0_nth 9 = .ok (.bipush 60, 2) := dk_16 60 (dk_at dksX0_nth_0 9 rfl rfl)
theorem dX0_nth_11 : decode cX0_nth 11 = .ok (.invokestatic 58, 3) := dk_184 0 58 (dk_at dksX0_nth_0 11 rfl rfl)
theorem dX0_nth_14 : decode cX0_nth 14 = .ok (.ifCond .ne 5, 3) := dk_154 0 5 (dk_at dksX0_nth_0 14 rfl rfl)
theorem dX0_nth_17 : decode cX0_nth 17 = .ok (.iconst (-1), 1) := dk_2 (dk_at dksX0_nth_0 17 rfl rfl)
theorem dX0_nth_18 : decode cX0_nth 18 = .ok (.ireturn, 1) := dk_172 (dk_at dksX0_nth_0 18 rfl rfl)
theorem dX0_nth_19 : decode cX0_nth 19 = .ok (.aload_n 0, 1) := dk_42 (dk_at dksX0_nth_0 19 rfl rfl)
theorem dX0_nth_20 : decode cX0_nth 20 = .ok (.iload_n 1, 1) := dk_27 (dk_at dksX0_nth_0 20 rfl rfl)
theorem dX0_nth_21 : decode cX0_nth 21 = .ok (.invokevirtual 287, 3) := dk_182 1 31 (dk_at dksX0_nth_0 21 rfl rfl)
theorem dX0_nth_24 : decode cX0_nth 24 = .ok (.iload_n 2, 1) := dk_28 (dk_at dksX0_nth_1 0 rfl rfl)
theorem dX0_nth_25 : decode cX0_nth 25 = .ok (.aload_n 0, 1) := dk_42 (dk_at dksX0_nth_1 1 rfl rfl)
theorem dX0_nth_26 : decode cX0_nth 26 = .ok (.getfield 272, 3) := dk_180 1 16 (dk_at dksX0_nth_1 2 rfl rfl)
theorem dX0_nth_29 : decode cX0_nth 29 = .ok (.if_icmp .le 7, 3) := dk_164 0 7 (dk_at dksX0_nth_1 5 rfl rfl)
theorem dX0_nth_32 : decode cX0_nth 32 = .ok (.iconst (-1), 1) := dk_2 (dk_at dksX0_nth_1 8 rfl rfl)
theorem dX0_nth_33 : decode cX0_nth 33 = .ok (.goto 11, 3) := dk_167 0 11 (dk_at dksX0_nth_1 9 rfl rfl)
theorem dX0_nth_36 : decode cX0_nth 36 = .ok (.aload_n 0, 1) := dk_42 (dk_at dksX0_nth_1 12 rfl rfl)
theorem dX0_nth_37 : decode cX0_nth 37 = .ok (.getfield 46, 3) := dk_180 0 46 (dk_at dksX0_nth_1 13 rfl rfl)
theorem dX0_nth_40 : decode cX0_nth 40 = .ok (.iload_n 2, 1) := dk_28 (dk_at dksX0_nth_1 16 rfl rfl)
theorem dX0_nth_41 : decode cX0_nth 41 = .ok (.iconst 1, 1) := dk_4 (dk_at dksX0_nth_1 17 rfl rfl)
theorem dX0_nth_42 : decode cX0_nth 42 = .ok (.isub, 1) := dk_100 (dk_at dksX0_nth_1 18 rfl rfl)
theorem dX0_nth_43 : decode cX0_nth 43 = .ok (.iaload, 1) := dk_46 (dk_at dksX0_nth_1 19 rfl rfl)
theorem dX0_nth_44 : decode cX0_nth 44 = .ok (.ireturn, 1) := dk_172 (dk_at dksX0_nth_1 20 rfl rfl)
abbrev cX0_value : ByteArray := prog_1_method_61_code
def yX0_value : MethodName := ⟨RX0, "value", "(II)Z"⟩
def dkwX0_value_1 : List UInt8 := [180, 0, 21, 180, 1, 44, 27, 28, 79, 4, 172]
abbrev dktX0_value_1 : List UInt8 := dkwX0_value_1 ++ []
def dkwX0_value_0 : List UInt8 := [27, 3, 16, 12, 184, 0, 58, 153, 0, 13, 28, 3, 16, 99, 184, 0, 58, 154, 0, 5, 3, 172, 42]
abbrev dktX0_value_0 : List UInt8 := dkwX0_value_0 ++ dktX0_value_1
theorem dksX0_value_0 : cX0_value.data.toList.drop 0 = dktX0_value_0 := by decide +kernel
theorem dksX0_value_1 : cX0_value.data.toList.drop 23 = dktX0_value_1 := dk_seg dksX0_value_0 23 rfl rfl
theorem dX0_value_0 : decode cX0_value 0 = .ok (.iload_n 1, 1) := dk_27 (dk_at dksX0_value_0 0 rfl rfl)
theorem dX0_value_1 : decode cX0_value 1 = .ok (.iconst 0, 1) := dk_3 (dk_at dksX0_value_0 1 rfl rfl)
theorem dX0_value_2 : decode cX0_value 2 = .ok (.bipush 12, 2) := dk_16 12 (dk_at dksX0_value_0 2 rfl rfl)
theorem dX0_value_4 : decode cX0_value 4 = .ok (.invokestatic 58, 3) := dk_184 0 58 (dk_at dksX0_value_0 4 rfl rfl)
theorem dX0_value_7 : decode cX0_value 7 = .ok (.ifCond .eq 13, 3) := dk_153 0 13 (dk_at dksX0_value_0 7 rfl rfl)
theorem dX0_value_10 : decode cX0_value 10 = .ok (.iload_n 2, 1) := dk_28 (dk_at dksX0_value_0 10 rfl rfl)
theorem dX0_value_11 : decode cX0_value 11 = .ok (.iconst 0, 1) := dk_3 (dk_at dksX0_value_0 11 rfl rfl)
theorem dX0_value_12 : decode cX0_value 12 = .ok (.bipush 99, 2) := dk_16 99 (dk_at dksX0_value_0 12 rfl rfl)
theorem dX0_value_14 : decode cX0_value 14 = .ok (.invokestatic 58, 3) := dk_184 0 58 (dk_at dksX0_value_0 14 rfl rfl)
theorem dX0_value_17 : decode cX0_value 17 = .ok (.ifCond .ne 5, 3) := dk_154 0 5 (dk_at dksX0_value_0 17 rfl rfl)
theorem dX0_value_20 : decode cX0_value 20 = .ok (.iconst 0, 1) := dk_3 (dk_at dksX0_value_0 20 rfl rfl)
theorem dX0_value_21 : decode cX0_value 21 = .ok (.ireturn, 1) := dk_172 (dk_at dksX0_value_0 21 rfl rfl)
theorem dX0_value_22 : decode cX0_value 22 = .ok (.aload_n 0, 1) := dk_42 (dk_at dksX0_value_0 22 rfl rfl)
theorem dX0_value_23 : decode cX0_value 23 = .ok (.getfield 21, 3) := dk_180 0 21 (dk_at dksX0_value_1 0 rfl rfl)
theorem dX0_value_26 : decode cX0_value 26 = .ok (.getfield 300, 3) := dk_180 1 44 (dk_at dksX0_value_1 3 rfl rfl)
theorem dX0_value_29 : decode cX0_value 29 = .ok (.iload_n 1, 1) := dk_27 (dk_at dksX0_value_1 6 rfl rfl)
theorem dX0_value_30 : decode cX0_value 30 = .ok (.iload_n 2, 1) := dk_28 (dk_at dksX0_value_1 7 rfl rfl)
theorem dX0_value_31 : decode cX0_value 31 = .ok (.iastore, 1) := dk_79 (dk_at dksX0_value_1 8 rfl rfl)
theorem dX0_value_32 : decode cX0_value 32 = .ok (.iconst 1, 1) := dk_4 (dk_at dksX0_value_1 9 rfl rfl)
theorem dX0_value_33 : decode cX0_value 33 = .ok (.ireturn, 1) := dk_172 (dk_at dksX0_value_1 10 rfl rfl)
abbrev cX0_worth : ByteArray := prog_1_method_65_code
def yX0_worth : MethodName := ⟨RX0, "worth", "(IIZ)J"⟩
def dkwX0_worth_2 : List UInt8 := [184, 1, 22, 55, 8, 29, 153, 0, 11, 22, 4, 22, 8, 109, 167, 0, 8, 22, 6, 22, 8, 109, 173]
abbrev dktX0_worth_2 : List UInt8 := dkwX0_worth_2 ++ []
def dkwX0_worth_1 : List UInt8 := [20, 1, 38, 16, 12, 184, 1, 25, 55, 4, 42, 27, 3, 182, 1, 47, 55, 6, 22, 4, 22, 6]
abbrev dktX0_worth_1 : List UInt8 := dkwX0_worth_1 ++ dktX0_worth_2
def dkwX0_worth_0 : List UInt8 := [42, 27, 182, 0, 159, 153, 0, 10, 28, 184, 0, 68, 154, 0, 7, 20, 1, 29, 173, 42, 28, 182, 1, 31]
abbrev dktX0_worth_0 : List UInt8 := dkwX0_worth_0 ++ dktX0_worth_1
theorem dksX0_worth_0 : cX0_worth.data.toList.drop 0 = dktX0_worth_0 := by decide +kernel
theorem dksX0_worth_1 : cX0_worth.data.toList.drop 24 = dktX0_worth_1 := dk_seg dksX0_worth_0 24 rfl rfl
theorem dksX0_worth_2 : cX0_worth.data.toList.drop 46 = dktX0_worth_2 := dk_seg dksX0_worth_1 22 rfl rfl
theorem dX0_worth_0 : decode cX0_worth 0 = .ok (.aload_n 0, 1) := dk_42 (dk_at dksX0_worth_0 0 rfl rfl)
theorem dX0_worth_1 : decode cX0_worth 1 = .ok (.iload_n 1, 1) := dk_27 (dk_at dksX0_worth_0 1 rfl rfl)
theorem dX0_worth_2 : decode cX0_worth 2 = .ok (.invokevirtual 159, 3) := dk_182 0 159 (dk_at dksX0_worth_0 2 rfl rfl)
theorem dX0_worth_5 : decode cX0_worth 5 = .ok (.ifCond .eq 10, 3) := dk_153 0 10 (dk_at dksX0_worth_0 5 rfl rfl)
theorem dX0_worth_8 : decode cX0_worth 8 = .ok (.iload_n 2, 1) := dk_28 (dk_at dksX0_worth_0 8 rfl rfl)
theorem dX0_worth_9 : decode cX0_worth 9 = .ok (.invokestatic 68, 3) := dk_184 0 68 (dk_at dksX0_worth_0 9 rfl rfl)
theorem dX0_worth_12 : decode cX0_worth 12 = .ok (.ifCond .ne 7, 3) := dk_154 0 7 (dk_at dksX0_worth_0 12 rfl rfl)
theorem dX0_worth_15 : decode cX0_worth 15 = .ok (.ldc2_w 285, 3) := dk_20 1 29 (dk_at dksX0_worth_0 15 rfl rfl)
theorem dX0_worth_18 : decode cX0_worth 18 = .ok (.lreturn, 1) := dk_173 (dk_at dksX0_worth_0 18 rfl rfl)
theorem dX0_worth_19 : decode cX0_worth 19 = .ok (.aload_n 0, 1) := dk_42 (dk_at dksX0_worth_0 19 rfl rfl)
theorem dX0_worth_20 : decode cX0_worth 20 = .ok (.iload_n 2, 1) := dk_28 (dk_at dksX0_worth_0 20 rfl rfl)
theorem dX0_worth_21 : decode cX0_worth 21 = .ok (.invokevirtual 287, 3) := dk_182 1 31 (dk_at dksX0_worth_0 21 rfl rfl)
theorem dX0_worth_24 : decode cX0_worth 24 = .ok (.ldc2_w 294, 3) := dk_20 1 38 (dk_at dksX0_worth_1 0 rfl rfl)
theorem dX0_worth_27 : decode cX0_worth 27 = .ok (.bipush 12, 2) := dk_16 12 (dk_at dksX0_worth_1 3 rfl rfl)
theorem dX0_worth_29 : decode cX0_worth 29 = .ok (.invokestatic 281, 3) := dk_184 1 25 (dk_at dksX0_worth_1 5 rfl rfl)
theorem dX0_worth_32 : decode cX0_worth 32 = .ok (.lstore 4, 2) := dk_55 4 (dk_at dksX0_worth_1 8 rfl rfl)
theorem dX0_worth_34 : decode cX0_worth 34 = .ok (.aload_n 0, 1) := dk_42 (dk_at dksX0_worth_1 10 rfl rfl)
theorem dX0_worth_35 : decode cX0_worth 35 = .ok (.iload_n 1, 1) := dk_27 (dk_at dksX0_worth_1 11 rfl rfl)
theorem dX0_worth_36 : decode cX0_worth 36 = .ok (.iconst 0, 1) := dk_3 (dk_at dksX0_worth_1 12 rfl rfl)
theorem dX0_worth_37 : decode cX0_worth 37 = .ok (.invokevirtual 303, 3) := dk_182 1 47 (dk_at dksX0_worth_1 13 rfl rfl)
theorem dX0_worth_40 : decode cX0_worth 40 = .ok (.lstore 6, 2) := dk_55 6 (dk_at dksX0_worth_1 16 rfl rfl)
theorem dX0_worth_42 : decode cX0_worth 42 = .ok (.lload 4, 2) := dk_22 4 (dk_at dksX0_worth_1 18 rfl rfl)
theorem dX0_worth_44 : decode cX0_worth 44 = .ok (.lload 6, 2) := dk_22 6 (dk_at dksX0_worth_1 20 rfl rfl)
theorem dX0_worth_46 : decode cX0_worth 46 = .ok (.invokestatic 278, 3) := dk_184 1 22 (dk_at dksX0_worth_2 0 rfl rfl)
theorem dX0_worth_49 : decode cX0_worth 49 = .ok (.lstore 8, 2) := dk_55 8 (dk_at dksX0_worth_2 3 rfl rfl)
theorem dX0_worth_51 : decode cX0_worth 51 = .ok (.iload_n 3, 1) := dk_29 (dk_at dksX0_worth_2 5 rfl rfl)
theorem dX0_worth_52 : decode cX0_worth 52 = .ok (.ifCond .eq 11, 3) := dk_153 0 11 (dk_at dksX0_worth_2 6 rfl rfl)
theorem dX0_worth_55 : decode cX0_worth 55 = .ok (.lload 4, 2) := dk_22 4 (dk_at dksX0_worth_2 9 rfl rfl)
theorem dX0_worth_57 : decode cX0_worth 57 = .ok (.lload 8, 2) := dk_22 8 (dk_at dksX0_worth_2 11 rfl rfl)
theorem dX0_worth_59 : decode cX0_worth 59 = .ok (.ldiv, 1) := dk_109 (dk_at dksX0_worth_2 13 rfl rfl)
theorem dX0_worth_60 : decode cX0_worth 60 = .ok (.goto 8, 3) := dk_167 0 8 (dk_at dksX0_worth_2 14 rfl rfl)
theorem dX0_worth_63 : decode cX0_worth 63 = .ok (.lload 6, 2) := dk_22 6 (dk_at dksX0_worth_2 17 rfl rfl)
theorem dX0_worth_65 : decode cX0_worth 65 = .ok (.lload 8, 2) := dk_22 8 (dk_at dksX0_worth_2 19 rfl rfl)
theorem dX0_worth_67 : decode cX0_worth 67 = .ok (.ldiv, 1) := dk_109 (dk_at dksX0_worth_2 21 rfl rfl)
theorem dX0_worth_68 : decode cX0_worth 68 = .ok (.lreturn, 1) := dk_173 (dk_at dksX0_worth_2 22 rfl rfl)
abbrev cX0_worthOf : ByteArray := prog_1_method_64_code
def yX0_worthOf : MethodName := ⟨RX0, "worthOf", "(II)J"⟩
def dkwX0_worthOf_1 : List UInt8 := [182, 1, 50, 42, 27, 28, 182, 1, 54, 184, 0, 9, 173]
abbrev dktX0_worthOf_1 : List UInt8 := dkwX0_worthOf_1 ++ []
def dkwX0_worthOf_0 : List UInt8 := [28, 16, 12, 159, 0, 11, 28, 42, 180, 1, 16, 160, 0, 11, 42, 28, 182, 1, 50, 167, 0, 17, 42, 28]
abbrev dktX0_worthOf_0 : List UInt8 := dkwX0_worthOf_0 ++ dktX0_worthOf_1
theorem dksX0_worthOf_0 : cX0_worthOf.data.toList.drop 0 = dktX0_worthOf_0 := by decide +kernel
theorem dksX0_worthOf_1 : cX0_worthOf.data.toList.drop 24 = dktX0_worthOf_1 := dk_seg dksX0_worthOf_0 24 rfl rfl
theorem dX0_worthOf_0 : decode cX0_worthOf 0 = .ok (.iload_n 2, 1) := dk_28 (dk_at dksX0_worthOf_0 0 rfl rfl)
theorem dX0_worthOf_1 : decode cX0_worthOf 1 = .ok (.bipush 12, 2) := dk_16 12 (dk_at dksX0_worthOf_0 1 rfl rfl)
theorem dX0_worthOf_3 : decode cX0_worthOf 3 = .ok (.if_icmp .eq 11, 3) := dk_159 0 11 (dk_at dksX0_worthOf_0 3 rfl rfl)
theorem dX0_worthOf_6 : decode cX0_worthOf 6 = .ok (.iload_n 2, 1) := dk_28 (dk_at dksX0_worthOf_0 6 rfl rfl)
theorem dX0_worthOf_7 : decode cX0_worthOf 7 = .ok (.aload_n 0, 1) := dk_42 (dk_at dksX0_worthOf_0 7 rfl rfl)
theorem dX0_worthOf_8 : decode cX0_worthOf 8 = .ok (.getfield 272, 3) := dk_180 1 16 (dk_at dksX0_worthOf_0 8 rfl rfl)
theorem dX0_worthOf_11 : decode cX0_worthOf 11 = .ok (.if_icmp .ne 11, 3) := dk_160 0 11 (dk_at dksX0_worthOf_0 11 rfl rfl)
theorem dX0_worthOf_14 : decode cX0_worthOf 14 = .ok (.aload_n 0, 1) := dk_42 (dk_at dksX0_worthOf_0 14 rfl rfl)
theorem dX0_worthOf_15 : decode cX0_worthOf 15 = .ok (.iload_n 2, 1) := dk_28 (dk_at dksX0_worthOf_0 15 rfl rfl)
theorem dX0_worthOf_16 : decode cX0_worthOf 16 = .ok (.invokevirtual 306, 3) := dk_182 1 50 (dk_at dksX0_worthOf_0 16 rfl rfl)
theorem dX0_worthOf_19 : decode cX0_worthOf 19 = .ok (.goto 17, 3) := dk_167 0 17 (dk_at dksX0_worthOf_0 19 rfl rfl)
theorem dX0_worthOf_22 : decode cX0_worthOf 22 = .ok (.aload_n 0, 1) := dk_42 (dk_at dksX0_worthOf_0 22 rfl rfl)
theorem dX0_worthOf_23 : decode cX0_worthOf 23 = .ok (.iload_n 2, 1) := dk_28 (dk_at dksX0_worthOf_0 23 rfl rfl)
theorem dX0_worthOf_24 : decode cX0_worthOf 24 = .ok (.invokevirtual 306, 3) := dk_182 1 50 (dk_at dksX0_worthOf_1 0 rfl rfl)
theorem dX0_worthOf_27 : decode cX0_worthOf 27 = .ok (.aload_n 0, 1) := dk_42 (dk_at dksX0_worthOf_1 3 rfl rfl)
theorem dX0_worthOf_28 : decode cX0_worthOf 28 = .ok (.iload_n 1, 1) := dk_27 (dk_at dksX0_worthOf_1 4 rfl rfl)
theorem dX0_worthOf_29 : decode cX0_worthOf 29 = .ok (.iload_n 2, 1) := dk_28 (dk_at dksX0_worthOf_1 5 rfl rfl)
theorem dX0_worthOf_30 : decode cX0_worthOf 30 = .ok (.invokevirtual 310, 3) := dk_182 1 54 (dk_at dksX0_worthOf_1 6 rfl rfl)
theorem dX0_worthOf_33 : decode cX0_worthOf 33 = .ok (.invokestatic 9, 3) := dk_184 0 9 (dk_at dksX0_worthOf_1 9 rfl rfl)
theorem dX0_worthOf_36 : decode cX0_worthOf 36 = .ok (.lreturn, 1) := dk_173 (dk_at dksX0_worthOf_1 12 rfl rfl)
abbrev cX0_stopsFor : ByteArray := prog_1_method_63_code
def yX0_stopsFor : MethodName := ⟨RX0, "stopsFor", "(I)J"⟩
def dkwX0_stopsFor_0 : List UInt8 := [42, 180, 0, 21, 180, 1, 44, 27, 46, 133, 20, 1, 38, 16, 12, 27, 100, 184, 1, 25, 105, 173]
abbrev dktX0_stopsFor_0 : List UInt8 := dkwX0_stopsFor_0 ++ []
theorem dksX0_stopsFor_0 : cX0_stopsFor.data.toList.drop 0 = dktX0_stopsFor_0 := by decide +kernel
theorem dX0_stopsFor_0 : decode cX0_stopsFor 0 = .ok (.aload_n 0, 1) := dk_42 (dk_at dksX0_stopsFor_0 0 rfl rfl)
theorem dX0_stopsFor_1 : decode cX0_stopsFor 1 = .ok (.getfield 21, 3) := dk_180 0 21 (dk_at dksX0_stopsFor_0 1 rfl rfl)
theorem dX0_stopsFor_4 : decode cX0_stopsFor 4 = .ok (.getfield 300, 3) := dk_180 1 44 (dk_at dksX0_stopsFor_0 4 rfl rfl)
theorem dX0_stopsFor_7 : decode cX0_stopsFor 7 = .ok (.iload_n 1, 1) := dk_27 (dk_at dksX0_stopsFor_0 7 rfl rfl)
theorem dX0_stopsFor_8 : decode cX0_stopsFor 8 = .ok (.iaload, 1) := dk_46 (dk_at dksX0_stopsFor_0 8 rfl rfl)
theorem dX0_stopsFor_9 : decode cX0_stopsFor 9 = .ok (.i2l, 1) := dk_133 (dk_at dksX0_stopsFor_0 9 rfl rfl)
theorem dX0_stopsFor_10 : decode cX0_stopsFor 10 = .ok (.ldc2_w 294, 3) := dk_20 1 38 (dk_at dksX0_stopsFor_0 10 rfl rfl)
theorem dX0_stopsFor_13 : decode cX0_stopsFor 13 = .ok (.bipush 12, 2) := dk_16 12 (dk_at dksX0_stopsFor_0 13 rfl rfl)
theorem dX0_stopsFor_15 : decode cX0_stopsFor 15 = .ok (.iload_n 1, 1) := dk_27 (dk_at dksX0_stopsFor_0 15 rfl rfl)
theorem dX0_stopsFor_16 : decode cX0_stopsFor 16 = .ok (.isub, 1) := dk_100 (dk_at dksX0_stopsFor_0 16 rfl rfl)
theorem dX0_stopsFor_17 : decode cX0_stopsFor 17 = .ok (.invokestatic 281, 3) := dk_184 1 25 (dk_at dksX0_stopsFor_0 17 rfl rfl)
theorem dX0_stopsFor_20 : decode cX0_stopsFor 20 = .ok (.lmul, 1) := dk_105 (dk_at dksX0_stopsFor_0 20 rfl rfl)
theorem dX0_stopsFor_21 : decode cX0_stopsFor 21 = .ok (.lreturn, 1) := dk_173 (dk_at dksX0_stopsFor_0 21 rfl rfl)
abbrev cX0_onOf : ByteArray := prog_1_method_62_code
def yX0_onOf : MethodName := ⟨RX0, "onOf", "(II)J"⟩
def dkwX0_onOf_0 : List UInt8 := [16, 10, 42, 27, 28, 182, 1, 19, 100, 133, 42, 27, 28, 4, 96, 182, 1, 47, 105, 173]
abbrev dktX0_onOf_0 : List UInt8 := dkwX0_onOf_0 ++ []
theorem dksX0_onOf_0 : cX0_onOf.data.toList.drop 0 = dktX0_onOf_0 := by decide +kernel
theorem dX0_onOf_0 : decode cX0_onOf 0 = .ok (.bipush 10, 2) := dk_16 10 (dk_at dksX0_onOf_0 0 rfl rfl)
theorem dX0_onOf_2 : decode cX0_onOf 2 = .ok (.aload_n 0, 1) := dk_42 (dk_at dksX0_onOf_0 2 rfl rfl)
theorem dX0_onOf_3 : decode cX0_onOf 3 = .ok (.iload_n 1, 1) := dk_27 (dk_at dksX0_onOf_0 3 rfl rfl)
theorem dX0_onOf_4 : decode cX0_onOf 4 = .ok (.iload_n 2, 1) := dk_28 (dk_at dksX0_onOf_0 4 rfl rfl)
theorem dX0_onOf_5 : decode cX0_onOf 5 = .ok (.invokevirtual 275, 3) := dk_182 1 19 (dk_at dksX0_onOf_0 5 rfl rfl)
theorem dX0_onOf_8 : decode cX0_onOf 8 = .ok (.isub, 1) := dk_100 (dk_at dksX0_onOf_0 8 rfl rfl)
theorem dX0_onOf_9 : decode cX0_onOf 9 = .ok (.i2l, 1) := dk_133 (dk_at dksX0_onOf_0 9 rfl rfl)
theorem dX0_onOf_10 : decode cX0_onOf 10 = .ok (.aload_n 0, 1) := dk_42 (dk_at dksX0_onOf_0 10 rfl rfl)
theorem dX0_onOf_11 : decode cX0_onOf 11 = .ok (.iload_n 1, 1) := dk_27 (dk_at dksX0_onOf_0 11 rfl rfl)
theorem dX0_onOf_12 : decode cX0_onOf 12 = .ok (.iload_n 2, 1) := dk_28 (dk_at dksX0_onOf_0 12 rfl rfl)
theorem dX0_onOf_13 : decode cX0_onOf 13 = .ok (.iconst 1, 1) := dk_4 (dk_at dksX0_onOf_0 13 rfl rfl)
theorem dX0_onOf_14 : decode cX0_onOf 14 = .ok (.iadd, 1) := dk_96 (dk_at dksX0_onOf_0 14 rfl rfl)
theorem dX0_onOf_15 : decode cX0_onOf 15 = .ok (.invokevirtual 303, 3) := dk_182 1 47 (dk_at dksX0_onOf_0 15 rfl rfl)
theorem dX0_onOf_18 : decode cX0_onOf 18 = .ok (.lmul, 1) := dk_105 (dk_at dksX0_onOf_0 18 rfl rfl)
theorem dX0_onOf_19 : decode cX0_onOf 19 = .ok (.lreturn, 1) := dk_173 (dk_at dksX0_onOf_0 19 rfl rfl)
abbrev cX0_goesOn : ByteArray := prog_1_method_66_code
def yX0_goesOn : MethodName := ⟨RX0, "goesOn", "(III)I"⟩
def dkwX0_goesOn_2 : List UInt8 := [29, 182, 1, 54, 42, 29, 182, 1, 50, 148, 158, 0, 7, 4, 167, 0, 4, 3, 172]
abbrev dktX0_goesOn_2 : List UInt8 := dkwX0_goesOn_2 ++ []
def dkwX0_goesOn_1 : List UInt8 := [154, 0, 5, 2, 172, 42, 28, 182, 1, 31, 29, 42, 180, 1, 16, 161, 0, 7, 2, 167, 0, 23, 42, 27]
abbrev dktX0_goesOn_1 : List UInt8 := dkwX0_goesOn_1 ++ dktX0_goesOn_2
def dkwX0_goesOn_0 : List UInt8 := [42, 27, 182, 0, 159, 153, 0, 20, 28, 184, 0, 68, 153, 0, 13, 29, 3, 16, 11, 184, 0, 58]
abbrev dktX0_goesOn_0 : List UInt8 := dkwX0_goesOn_0 ++ dktX0_goesOn_1
theorem dksX0_goesOn_0 : cX0_goesOn.data.toList.drop 0 = dktX0_goesOn_0 := by decide +kernel
theorem dksX0_goesOn_1 : cX0_goesOn.data.toList.drop 22 = dktX0_goesOn_1 := dk_seg dksX0_goesOn_0 22 rfl rfl
theorem dksX0_goesOn_2 : cX0_goesOn.data.toList.drop 46 = dktX0_goesOn_2 := dk_seg dksX0_goesOn_1 24 rfl rfl
theorem dX0_goesOn_0 : decode cX0_goesOn 0 = .ok (.aload_n 0, 1) := dk_42 (dk_at dksX0_goesOn_0 0 rfl rfl)
theorem dX0_goesOn_1 : decode cX0_goesOn 1 = .ok (.iload_n 1, 1) := dk_27 (dk_at dksX0_goesOn_0 1 rfl rfl)
theorem dX0_goesOn_2 : decode cX0_goesOn 2 = .ok (.invokevirtual 159, 3) := dk_182 0 159 (dk_at dksX0_goesOn_0 2 rfl rfl)
theorem dX0_goesOn_5 : decode cX0_goesOn 5 = .ok (.ifCond .eq 20, 3) := dk_153 0 20 (dk_at dksX0_goesOn_0 5 rfl rfl)
theorem dX0_goesOn_8 : decode cX0_goesOn 8 = .ok (.iload_n 2, 1) := dk_28 (dk_at dksX0_goesOn_0 8 rfl rfl)
theorem dX0_goesOn_9 : decode cX0_goesOn 9 = .ok (.invokestatic 68, 3) := dk_184 0 68 (dk_at dksX0_goesOn_0 9 rfl rfl)
theorem dX0_goesOn_12 : decode cX0_goesOn 12 = .ok (.ifCond .eq 13, 3) := dk_153 0 13 (dk_at dksX0_goesOn_0 12 rfl rfl)
theorem dX0_goesOn_15 : decode cX0_goesOn 15 = .ok (.iload_n 3, 1) := dk_29 (dk_at dksX0_goesOn_0 15 rfl rfl)
theorem dX0_goesOn_16 : decode cX0_goesOn 16 = .ok (.iconst 0, 1) := dk_3 (dk_at dksX0_goesOn_0 16 rfl rfl)
theorem dX0_goesOn_17 : decode cX0_goesOn 17 = .ok (.bipush 11, 2) := dk_16 11 (dk_at dksX0_goesOn_0 17 rfl rfl)
theorem dX0_goesOn_19 : decode cX0_goesOn 19 = .ok (.invokestatic 58, 3) := dk_184 0 58 (dk_at dksX0_goesOn_0 19 rfl rfl)
theorem dX0_goesOn_22 : decode cX0_goesOn 22 = .ok (.ifCond .ne 5, 3) := dk_154 0 5 (dk_at dksX0_goesOn_1 0 rfl rfl)
theorem dX0_goesOn_25 : decode cX0_goesOn 25 = .ok (.iconst (-1), 1) := dk_2 (dk_at dksX0_goesOn_1 3 rfl rfl)
theorem dX0_goesOn_26 : decode cX0_goesOn 26 = .ok (.ireturn, 1) := dk_172 (dk_at dksX0_goesOn_1 4 rfl rfl)
theorem dX0_goesOn_27 : decode cX0_goesOn 27 = .ok (.aload_n 0, 1) := dk_42 (dk_at dksX0_goesOn_1 5 rfl rfl)
theorem dX0_goesOn_28 : decode cX0_goesOn 28 = .ok (.iload_n 2, 1) := dk_28 (dk_at dksX0_goesOn_1 6 rfl rfl)
theorem dX0_goesOn_29 : decode cX0_goesOn 29 = .ok (.invokevirtual 287, 3) := dk_182 1 31 (dk_at dksX0_goesOn_1 7 rfl rfl)
theorem dX0_goesOn_32 : decode cX0_goesOn 32 = .ok (.iload_n 3, 1) := dk_29 (dk_at dksX0_goesOn_1 10 rfl rfl)
theorem dX0_goesOn_33 : decode cX0_goesOn 33 = .ok (.aload_n 0, 1) := dk_42 (dk_at dksX0_goesOn_1 11 rfl rfl)
theorem dX0_goesOn_34 : decode cX0_goesOn 34 = .ok (.getfield 272, 3) := dk_180 1 16 (dk_at dksX0_goesOn_1 12 rfl rfl)
theorem dX0_goesOn_37 : decode cX0_goesOn 37 = .ok (.if_icmp .lt 7, 3) := dk_161 0 7 (dk_at dksX0_goesOn_1 15 rfl rfl)
theorem dX0_goesOn_40 : decode cX0_goesOn 40 = .ok (.iconst (-1), 1) := dk_2 (dk_at dksX0_goesOn_1 18 rfl rfl)
theorem dX0_goesOn_41 : decode cX0_goesOn 41 = .ok (.goto 23, 3) := dk_167 0 23 (dk_at dksX0_goesOn_1 19 rfl rfl)
theorem dX0_goesOn_44 : decode cX0_goesOn 44 = .ok (.aload_n 0, 1) := dk_42 (dk_at dksX0_goesOn_1 22 rfl rfl)
theorem dX0_goesOn_45 : decode cX0_goesOn 45 = .ok (.iload_n 1, 1) := dk_27 (dk_at dksX0_goesOn_1 23 rfl rfl)
theorem dX0_goesOn_46 : decode cX0_goesOn 46 = .ok (.iload_n 3, 1) := dk_29 (dk_at dksX0_goesOn_2 0 rfl rfl)
theorem dX0_goesOn_47 : decode cX0_goesOn 47 = .ok (.invokevirtual 310, 3) := dk_182 1 54 (dk_at dksX0_goesOn_2 1 rfl rfl)
theorem dX0_goesOn_50 : decode cX0_goesOn 50 = .ok (.aload_n 0, 1) := dk_42 (dk_at dksX0_goesOn_2 4 rfl rfl)
theorem dX0_goesOn_51 : decode cX0_goesOn 51 = .ok (.iload_n 3, 1) := dk_29 (dk_at dksX0_goesOn_2 5 rfl rfl)
theorem dX0_goesOn_52 : decode cX0_goesOn 52 = .ok (.invokevirtual 306, 3) := dk_182 1 50 (dk_at dksX0_goesOn_2 6 rfl rfl)
theorem dX0_goesOn_55 : decode cX0_goesOn 55 = .ok (.lcmp, 1) := dk_148 (dk_at dksX0_goesOn_2 9 rfl rfl)
theorem dX0_goesOn_56 : decode cX0_goesOn 56 = .ok (.ifCond .le 7, 3) := dk_158 0 7 (dk_at dksX0_goesOn_2 10 rfl rfl)
theorem dX0_goesOn_59 : decode cX0_goesOn 59 = .ok (.iconst 1, 1) := dk_4 (dk_at dksX0_goesOn_2 13 rfl rfl)
theorem dX0_goesOn_60 : decode cX0_goesOn 60 = .ok (.goto 4, 3) := dk_167 0 4 (dk_at dksX0_goesOn_2 14 rfl rfl)
theorem dX0_goesOn_63 : decode cX0_goesOn 63 = .ok (.iconst 0, 1) := dk_3 (dk_at dksX0_goesOn_2 17 rfl rfl)
theorem dX0_goesOn_64 : decode cX0_goesOn 64 = .ok (.ireturn, 1) := dk_172 (dk_at dksX0_goesOn_2 18 rfl rfl)
abbrev cX0_best : ByteArray := prog_1_method_67_code
def yX0_best : MethodName := ⟨RX0, "best", "(I)I"⟩
def dkwX0_best_2 : List UInt8 := [167, 0, 9, 21, 5, 61, 22, 6, 66, 132, 5, 1, 167, 255, 216, 28, 172]
abbrev dktX0_best_2 : List UInt8 := dkwX0_best_2 ++ []
def dkwX0_best_1 : List UInt8 := [162, 0, 39, 42, 21, 5, 182, 1, 31, 42, 27, 3, 182, 1, 47, 55, 6, 22, 6, 33, 148, 157, 0, 6]
abbrev dktX0_best_1 : List UInt8 := dkwX0_best_1 ++ dktX0_best_2
def dkwX0_best_0 : List UInt8 := [42, 27, 182, 0, 159, 154, 0, 5, 2, 172, 2, 61, 20, 1, 29, 66, 3, 54, 5, 21, 5, 16, 30]
abbrev dktX0_best_0 : List UInt8 := dkwX0_best_0 ++ dktX0_best_1
theorem dksX0_best_0 : cX0_best.data.toList.drop 0 = dktX0_best_0 := by decide +kernel
theorem dksX0_best_1 : cX0_best.data.toList.drop 23 = dktX0_best_1 := dk_seg dksX0_best_0 23 rfl rfl
theorem dksX0_best_2 : cX0_best.data.toList.drop 47 = dktX0_best_2 := dk_seg dksX0_best_1 24 rfl rfl
theorem dX0_best_0 : decode cX0_best 0 = .ok (.aload_n 0, 1) := dk_42 (dk_at dksX0_best_0 0 rfl rfl)
theorem dX0_best_1 : decode cX0_best 1 = .ok (.iload_n 1, 1) := dk_27 (dk_at dksX0_best_0 1 rfl rfl)
theorem dX0_best_2 : decode cX0_best 2 = .ok (.invokevirtual 159, 3) := dk_182 0 159 (dk_at dksX0_best_0 2 rfl rfl)
theorem dX0_best_5 : decode cX0_best 5 = .ok (.ifCond .ne 5, 3) := dk_154 0 5 (dk_at dksX0_best_0 5 rfl rfl)
theorem dX0_best_8 : decode cX0_best 8 = .ok (.iconst (-1), 1) := dk_2 (dk_at dksX0_best_0 8 rfl rfl)
theorem dX0_best_9 : decode cX0_best 9 = .ok (.ireturn, 1) := dk_172 (dk_at dksX0_best_0 9 rfl rfl)
theorem dX0_best_10 : decode cX0_best 10 = .ok (.iconst (-1), 1) := dk_2 (dk_at dksX0_best_0 10 rfl rfl)
theorem dX0_best_11 : decode cX0_best 11 = .ok (.istore_n 2, 1) := dk_61 (dk_at dksX0_best_0 11 rfl rfl)
theorem dX0_best_12 : decode cX0_best 12 = .ok (.ldc2_w 285, 3) := dk_20 1 29 (dk_at dksX0_best_0 12 rfl rfl)
theorem dX0_best_15 : decode cX0_best 15 = .ok (.lstore_n 3, 1) := dk_66 (dk_at dksX0_best_0 15 rfl rfl)
theorem dX0_best_16 : decode cX0_best 16 = .ok (.iconst 0, 1) := dk_3 (dk_at dksX0_best_0 16 rfl rfl)
theorem dX0_best_17 : decode cX0_best 17 = .ok (.istore 5, 2) := dk_54 5 (dk_at dksX0_best_0 17 rfl rfl)
theorem dX0_best_19 : decode cX0_best 19 = .ok (.iload 5, 2) := dk_21 5 (dk_at dksX0_best_0 19 rfl rfl)
theorem dX0_best_21 : decode cX0_best 21 = .ok (.bipush 30, 2) := dk_16 30 (dk_at dksX0_best_0 21 rfl rfl)
theorem dX0_best_23 : decode cX0_best 23 = .ok (.if_icmp .ge 39, 3) := dk_162 0 39 (dk_at dksX0_best_1 0 rfl rfl)
theorem dX0_best_26 : decode cX0_best 26 = .ok (.aload_n 0, 1) := dk_42 (dk_at dksX0_best_1 3 rfl rfl)
theorem dX0_best_27 : decode cX0_best 27 = .ok (.iload 5, 2) := dk_21 5 (dk_at dksX0_best_1 4 rfl rfl)
theorem dX0_best_29 : decode cX0_best 29 = .ok (.invokevirtual 287, 3) := dk_182 1 31 (dk_at dksX0_best_1 6 rfl rfl)
theorem dX0_best_32 : decode cX0_best 32 = .ok (.aload_n 0, 1) := dk_42 (dk_at dksX0_best_1 9 rfl rfl)
theorem dX0_best_33 : decode cX0_best 33 = .ok (.iload_n 1, 1) := dk_27 (dk_at dksX0_best_1 10 rfl rfl)
theorem dX0_best_34 : decode cX0_best 34 = .ok (.iconst 0, 1) := dk_3 (dk_at dksX0_best_1 11 rfl rfl)
theorem dX0_best_35 : decode cX0_best 35 = .ok (.invokevirtual 303, 3) := dk_182 1 47 (dk_at dksX0_best_1 12 rfl rfl)
theorem dX0_best_38 : decode cX0_best 38 = .ok (.lstore 6, 2) := dk_55 6 (dk_at dksX0_best_1 15 rfl rfl)
theorem dX0_best_40 : decode cX0_best 40 = .ok (.lload 6, 2) := dk_22 6 (dk_at dksX0_best_1 17 rfl rfl)
theorem dX0_best_42 : decode cX0_best 42 = .ok (.lload_n 3, 1) := dk_33 (dk_at dksX0_best_1 19 rfl rfl)
theorem dX0_best_43 : decode cX0_best 43 = .ok (.lcmp, 1) := dk_148 (dk_at dksX0_best_1 20 rfl rfl)
theorem dX0_best_44 : decode cX0_best 44 = .ok (.ifCond .gt 6, 3) := dk_157 0 6 (dk_at dksX0_best_1 21 rfl rfl)
theorem dX0_best_47 : decode cX0_best 47 = .ok (.goto 9, 3) := dk_167 0 9 (dk_at dksX0_best_2 0 rfl rfl)
theorem dX0_best_50 : decode cX0_best 50 = .ok (.iload 5, 2) := dk_21 5 (dk_at dksX0_best_2 3 rfl rfl)
theorem dX0_best_52 : decode cX0_best 52 = .ok (.istore_n 2, 1) := dk_61 (dk_at dksX0_best_2 5 rfl rfl)
theorem dX0_best_53 : decode cX0_best 53 = .ok (.lload 6, 2) := dk_22 6 (dk_at dksX0_best_2 6 rfl rfl)
theorem dX0_best_55 : decode cX0_best 55 = .ok (.lstore_n 3, 1) := dk_66 (dk_at dksX0_best_2 8 rfl rfl)
theorem dX0_best_56 : decode cX0_best 56 = .ok (.iinc 5 1, 3) := dk_132 5 1 (dk_at dksX0_best_2 9 rfl rfl)
theorem dX0_best_59 : decode cX0_best 59 = .ok (.goto (-40), 3) := dk_167 255 216 (dk_at dksX0_best_2 12 rfl rfl)
theorem dX0_best_62 : decode cX0_best 62 = .ok (.iload_n 2, 1) := dk_28 (dk_at dksX0_best_2 15 rfl rfl)
theorem dX0_best_63 : decode cX0_best 63 = .ok (.ireturn, 1) := dk_172 (dk_at dksX0_best_2 16 rfl rfl)
abbrev cX0_tell : ByteArray := prog_1_method_68_code
def yX0_tell : MethodName := ⟨RX0, "tell", "(III)I"⟩
def dkwX0_tell_3 : List UInt8 := [180, 1, 60, 7, 27, 28, 29, 182, 1, 63, 172]
abbrev dktX0_tell_3 : List UInt8 := dkwX0_tell_3 ++ []
def dkwX0_tell_2 : List UInt8 := [180, 0, 21, 180, 0, 62, 7, 46, 16, 6, 160, 0, 6, 16, 254, 172, 42, 180, 0, 21, 42, 180, 0, 21]
abbrev dktX0_tell_2 : List UInt8 := dkwX0_tell_2 ++ dktX0_tell_3
def dkwX0_tell_1 : List UInt8 := [28, 4, 16, 12, 27, 100, 184, 0, 58, 153, 0, 27, 29, 3, 16, 12, 184, 0, 58, 153, 0, 17, 42]
abbrev dktX0_tell_1 : List UInt8 := dkwX0_tell_1 ++ dktX0_tell_2
def dkwX0_tell_0 : List UInt8 := [27, 2, 160, 0, 12, 42, 180, 0, 21, 7, 182, 1, 57, 172, 27, 3, 16, 11, 184, 0, 58, 153, 0, 39]
abbrev dktX0_tell_0 : List UInt8 := dkwX0_tell_0 ++ dktX0_tell_1
theorem dksX0_tell_0 : cX0_tell.data.toList.drop 0 = dktX0_tell_0 := by decide +kernel
theorem dksX0_tell_1 : cX0_tell.data.toList.drop 24 = dktX0_tell_1 := dk_seg dksX0_tell_0 24 rfl rfl
theorem dksX0_tell_2 : cX0_tell.data.toList.drop 47 = dktX0_tell_2 := dk_seg dksX0_tell_1 23 rfl rfl
theorem dksX0_tell_3 : cX0_tell.data.toList.drop 71 = dktX0_tell_3 := dk_seg dksX0_tell_2 24 rfl rfl
theorem dX0_tell_0 : decode cX0_tell 0 = .ok (.iload_n 1, 1) := dk_27 (dk_at dksX0_tell_0 0 rfl rfl)
theorem dX0_tell_1 : decode cX0_tell 1 = .ok (.iconst (-1), 1) := dk_2 (dk_at dksX0_tell_0 1 rfl rfl)
theorem dX0_tell_2 : decode cX0_tell 2 = .ok (.if_icmp .ne 12, 3) := dk_160 0 12 (dk_at dksX0_tell_0 2 rfl rfl)
theorem dX0_tell_5 : decode cX0_tell 5 = .ok (.aload_n 0, 1) := dk_42 (dk_at dksX0_tell_0 5 rfl rfl)
theorem dX0_tell_6 : decode cX0_tell 6 = .ok (.getfield 21, 3) := dk_180 0 21 (dk_at dksX0_tell_0 6 rfl rfl)
theorem dX0_tell_9 : decode cX0_tell 9 = .ok (.iconst 4, 1) := dk_7 (dk_at dksX0_tell_0 9 rfl rfl)
theorem dX0_tell_10 : decode cX0_tell 10 = .ok (.invokevirtual 313, 3) := dk_182 1 57 (dk_at dksX0_tell_0 10 rfl rfl)
theorem dX0_tell_13 : decode cX0_tell 13 = .ok (.ireturn, 1) := dk_172 (dk_at dksX0_tell_0 13 rfl rfl)
theorem dX0_tell_14 : decode cX0_tell 14 = .ok (.iload_n 1, 1) := dk_27 (dk_at dksX0_tell_0 14 rfl rfl)
theorem dX0_tell_15 : decode cX0_tell 15 = .ok (.iconst 0, 1) := dk_3 (dk_at dksX0_tell_0 15 rfl rfl)
theorem dX0_tell_16 : decode cX0_tell 16 = .ok (.bipush 11, 2) := dk_16 11 (dk_at dksX0_tell_0 16 rfl rfl)
theorem dX0_tell_18 : decode cX0_tell 18 = .ok (.invokestatic 58, 3) := dk_184 0 58 (dk_at dksX0_tell_0 18 rfl rfl)
theorem dX0_tell_21 : decode cX0_tell 21 = .ok (.ifCond .eq 39, 3) := dk_153 0 39 (dk_at dksX0_tell_0 21 rfl rfl)
theorem dX0_tell_24 : decode cX0_tell 24 = .ok (.iload_n 2, 1) := dk_28 (dk_at dksX0_tell_1 0 rfl rfl)
theorem dX0_tell_25 : decode cX0_tell 25 = .ok (.iconst 1, 1) := dk_4 (dk_at dksX0_tell_1 1 rfl rfl)
theorem dX0_tell_26 : decode cX0_tell 26 = .ok (.bipush 12, 2) := dk_16 12 (dk_at dksX0_tell_1 2 rfl rfl)
theorem dX0_tell_28 : decode cX0_tell 28 = .ok (.iload_n 1, 1) := dk_27 (dk_at dksX0_tell_1 4 rfl rfl)
theorem dX0_tell_29 : decode cX0_tell 29 = .ok (.isub, 1) := dk_100 (dk_at dksX0_tell_1 5 rfl rfl)
theorem dX0_tell_30 : decode cX0_tell 30 = .ok (.invokestatic 58, 3) := dk_184 0 58 (dk_at dksX0_tell_1 6 rfl rfl)
theorem dX0_tell_33 : decode cX0_tell 33 = .ok (.ifCond .eq 27, 3) := dk_153 0 27 (dk_at dksX0_tell_1 9 rfl rfl)
theorem dX0_tell_36 : decode cX0_tell 36 = .ok (.iload_n 3, 1) := dk_29 (dk_at dksX0_tell_1 12 rfl rfl)
theorem dX0_tell_37 : decode cX0_tell 37 = .ok (.iconst 0, 1) := dk_3 (dk_at dksX0_tell_1 13 rfl rfl)
theorem dX0_tell_38 : decode cX0_tell 38 = .ok (.bipush 12, 2) := dk_16 12 (dk_at dksX0_tell_1 14 rfl rfl)
theorem dX0_tell_40 : decode cX0_tell 40 = .ok (.invokestatic 58, 3) := dk_184 0 58 (dk_at dksX0_tell_1 16 rfl rfl)
theorem dX0_tell_43 : decode cX0_tell 43 = .ok (.ifCond .eq 17, 3) := dk_153 0 17 (dk_at dksX0_tell_1 19 rfl rfl)
theorem dX0_tell_46 : decode cX0_tell 46 = .ok (.aload_n 0, 1) := dk_42 (dk_at dksX0_tell_1 22 rfl rfl)
theorem dX0_tell_47 : decode cX0_tell 47 = .ok (.getfield 21, 3) := dk_180 0 21 (dk_at dksX0_tell_2 0 rfl rfl)
theorem dX0_tell_50 : decode cX0_tell 50 = .ok (.getfield 62, 3) := dk_180 0 62 (dk_at dksX0_tell_2 3 rfl rfl)
theorem dX0_tell_53 : decode cX0_tell 53 = .ok (.iconst 4, 1) := dk_7 (dk_at dksX0_tell_2 6 rfl rfl)
theorem dX0_tell_54 : decode cX0_tell 54 = .ok (.iaload, 1) := dk_46 (dk_at dksX0_tell_2 7 rfl rfl)
theorem dX0_tell_55 : decode cX0_tell 55 = .ok (.bipush 6, 2) := dk_16 6 (dk_at dksX0_tell_2 8 rfl rfl)
theorem dX0_tell_57 : decode cX0_tell 57 = .ok (.if_icmp .ne 6, 3) := dk_160 0 6 (dk_at dksX0_tell_2 10 rfl rfl)
theorem dX0_tell_60 : decode cX0_tell 60 = .ok (.bipush (-2), 2) := dk_16 254 (dk_at dksX0_tell_2 13 rfl rfl)
theorem dX0_tell_62 : decode cX0_tell 62 = .ok (.ireturn, 1) := dk_172 (dk_at dksX0_tell_2 15 rfl rfl)
theorem dX0_tell_63 : decode cX0_tell 63 = .ok (.aload_n 0, 1) := dk_42 (dk_at dksX0_tell_2 16 rfl rfl)
theorem dX0_tell_64 : decode cX0_tell 64 = .ok (.getfield 21, 3) := dk_180 0 21 (dk_at dksX0_tell_2 17 rfl rfl)
theorem dX0_tell_67 : decode cX0_tell 67 = .ok (.aload_n 0, 1) := dk_42 (dk_at dksX0_tell_2 20 rfl rfl)
theorem dX0_tell_68 : decode cX0_tell 68 = .ok (.getfield 21, 3) := dk_180 0 21 (dk_at dksX0_tell_2 21 rfl rfl)
theorem dX0_tell_71 : decode cX0_tell 71 = .ok (.getfield 316, 3) := dk_180 1 60 (dk_at dksX0_tell_3 0 rfl rfl)
theorem dX0_tell_74 : decode cX0_tell 74 = .ok (.iconst 4, 1) := dk_7 (dk_at dksX0_tell_3 3 rfl rfl)
theorem dX0_tell_75 : decode cX0_tell 75 = .ok (.iload_n 1, 1) := dk_27 (dk_at dksX0_tell_3 4 rfl rfl)
theorem dX0_tell_76 : decode cX0_tell 76 = .ok (.iload_n 2, 1) := dk_28 (dk_at dksX0_tell_3 5 rfl rfl)
theorem dX0_tell_77 : decode cX0_tell 77 = .ok (.iload_n 3, 1) := dk_29 (dk_at dksX0_tell_3 6 rfl rfl)
theorem dX0_tell_78 : decode cX0_tell 78 = .ok (.invokevirtual 319, 3) := dk_182 1 63 (dk_at dksX0_tell_3 7 rfl rfl)
theorem dX0_tell_81 : decode cX0_tell 81 = .ok (.ireturn, 1) := dk_172 (dk_at dksX0_tell_3 10 rfl rfl)
abbrev cX0_could : ByteArray := prog_1_method_71_code
def yX0_could : MethodName := ⟨RX0, "could", "(II)I"⟩
def dkwX0_could_4 : List UInt8 := [28, 4, 160, 0, 8, 21, 4, 167, 0, 11, 17, 15, 255, 21, 5, 2, 130, 126, 172]
abbrev dktX0_could_4 : List UInt8 := dkwX0_could_4 ++ []
def dkwX0_could_3 : List UInt8 := [54, 5, 132, 6, 1, 167, 255, 215, 28, 154, 0, 7, 29, 167, 0, 29, 29, 154, 0, 7, 2, 167, 0, 21]
abbrev dktX0_could_3 : List UInt8 := dkwX0_could_3 ++ dktX0_could_4
def dkwX0_could_2 : List UInt8 := [182, 1, 78, 154, 0, 6, 167, 0, 20, 132, 3, 1, 21, 4, 21, 6, 126, 54, 4, 21, 5, 21, 6, 128]
abbrev dktX0_could_2 : List UInt8 := dkwX0_could_2 ++ dktX0_could_3
def dkwX0_could_1 : List UInt8 := [17, 15, 255, 54, 4, 3, 54, 5, 3, 54, 6, 21, 6, 17, 16, 0, 162, 0, 39, 42, 21, 6, 27]
abbrev dktX0_could_1 : List UInt8 := dkwX0_could_1 ++ dktX0_could_2
def dkwX0_could_0 : List UInt8 := [27, 3, 5, 184, 0, 58, 153, 0, 12, 28, 3, 5, 184, 0, 58, 154, 0, 5, 2, 172, 3, 62]
abbrev dktX0_could_0 : List UInt8 := dkwX0_could_0 ++ dktX0_could_1
theorem dksX0_could_0 : cX0_could.data.toList.drop 0 = dktX0_could_0 := by decide +kernel
theorem dksX0_could_1 : cX0_could.data.toList.drop 22 = dktX0_could_1 := dk_seg dksX0_could_0 22 rfl rfl
theorem dksX0_could_2 : cX0_could.data.toList.drop 45 = dktX0_could_2 := dk_seg dksX0_could_1 23 rfl rfl
theorem dksX0_could_3 : cX0_could.data.toList.drop 69 = dktX0_could_3 := dk_seg dksX0_could_2 24 rfl rfl
theorem dksX0_could_4 : cX0_could.data.toList.drop 93 = dktX0_could_4 := dk_seg dksX0_could_3 24 rfl rfl
theorem dX0_could_0 : decode cX0_could 0 = .ok (.iload_n 1, 1) := dk_27 (dk_at dksX0_could_0 0 rfl rfl)
theorem dX0_could_1 : decode cX0_could 1 = .ok (.iconst 0, 1) := dk_3 (dk_at dksX0_could_0 1 rfl rfl)
theorem dX0_could_2 : decode cX0_could 2 = .ok (.iconst 2, 1) := dk_5 (dk_at dksX0_could_0 2 rfl rfl)
theorem dX0_could_3 : decode cX0_could 3 = .ok (.invokestatic 58, 3) := dk_184 0 58 (dk_at dksX0_could_0 3 rfl rfl)
theorem dX0_could_6 : decode cX0_could 6 = .ok (.ifCond .eq 12, 3) := dk_153 0 12 (dk_at dksX0_could_0 6 rfl rfl)
theorem dX0_could_9 : decode cX0_could 9 = .ok (.iload_n 2, 1) := dk_28 (dk_at dksX0_could_0 9 rfl rfl)
theorem dX0_could_10 : decode cX0_could 10 = .ok (.iconst 0, 1) := dk_3 (dk_at dksX0_could_0 10 rfl rfl)
theorem dX0_could_11 : decode cX0_could 11 = .ok (.iconst 2, 1) := dk_5 (dk_at dksX0_could_0 11 rfl rfl)
theorem dX0_could_12 : decode cX0_could 12 = .ok (.invokestatic 58, 3) := dk_184 0 58 (dk_at dksX0_could_0 12 rfl rfl)
theorem dX0_could_15 : decode cX0_could 15 = .ok (.ifCond .ne 5, 3) := dk_154 0 5 (dk_at dksX0_could_0 15 rfl rfl)
theorem dX0_could_18 : decode cX0_could 18 = .ok (.iconst (-1), 1) := dk_2 (dk_at dksX0_could_0 18 rfl rfl)
theorem dX0_could_19 : decode cX0_could 19 = .ok (.ireturn, 1) := dk_172 (dk_at dksX0_could_0 19 rfl rfl)
theorem dX0_could_20 : decode cX0_could 20 = .ok (.iconst 0, 1) := dk_3 (dk_at dksX0_could_0 20 rfl rfl)
theorem dX0_could_21 : decode cX0_could 21 = .ok (.istore_n 3, 1) := dk_62 (dk_at dksX0_could_0 21 rfl rfl)
theorem dX0_could_22 : decode cX0_could 22 = .ok (.sipush 4095, 3) := dk_17 15 255 (dk_at dksX0_could_1 0 rfl rfl)
theorem dX0_could_25 : decode cX0_could 25 = .ok (.istore 4, 2) := dk_54 4 (dk_at dksX0_could_1 3 rfl rfl)
theorem dX0_could_27 : decode cX0_could 27 = .ok (.iconst 0, 1) := dk_3 (dk_at dksX0_could_1 5 rfl rfl)
theorem dX0_could_28 : decode cX0_could 28 = .ok (.istore 5, 2) := dk_54 5 (dk_at dksX0_could_1 6 rfl rfl)
theorem dX0_could_30 : decode cX0_could 30 = .ok (.iconst 0, 1) := dk_3 (dk_at dksX0_could_1 8 rfl rfl)
theorem dX0_could_31 : decode cX0_could 31 = .ok (.istore 6, 2) := dk_54 6 (dk_at dksX0_could_1 9 rfl rfl)
theorem dX0_could_33 : decode cX0_could 33 = .ok (.iload 6, 2) := dk_21 6 (dk_at dksX0_could_1 11 rfl rfl)
theorem dX0_could_35 : decode cX0_could 35 = .ok (.sipush 4096, 3) := dk_17 16 0 (dk_at dksX0_could_1 13 rfl rfl)
theorem dX0_could_38 : decode cX0_could 38 = .ok (.if_icmp .ge 39, 3) := dk_162 0 39 (dk_at dksX0_could_1 16 rfl rfl)
theorem dX0_could_41 : decode cX0_could 41 = .ok (.aload_n 0, 1) := dk_42 (dk_at dksX0_could_1 19 rfl rfl)
theorem dX0_could_42 : decode cX0_could 42 = .ok (.iload 6, 2) := dk_21 6 (dk_at dksX0_could_1 20 rfl rfl)
theorem dX0_could_44 : decode cX0_could 44 = .ok (.iload_n 1, 1) := dk_27 (dk_at dksX0_could_1 22 rfl rfl)
theorem dX0_could_45 : decode cX0_could 45 = .ok (.invokevirtual 334, 3) := dk_182 1 78 (dk_at dksX0_could_2 0 rfl rfl)
theorem dX0_could_48 : decode cX0_could 48 = .ok (.ifCond .ne 6, 3) := dk_154 0 6 (dk_at dksX0_could_2 3 rfl rfl)
theorem dX0_could_51 : decode cX0_could 51 = .ok (.goto 20, 3) := dk_167 0 20 (dk_at dksX0_could_2 6 rfl rfl)
theorem dX0_could_54 : decode cX0_could 54 = .ok (.iinc 3 1, 3) := dk_132 3 1 (dk_at dksX0_could_2 9 rfl rfl)
theorem dX0_could_57 : decode cX0_could 57 = .ok (.iload 4, 2) := dk_21 4 (dk_at dksX0_could_2 12 rfl rfl)
theorem dX0_could_59 : decode cX0_could 59 = .ok (.iload 6, 2) := dk_21 6 (dk_at dksX0_could_2 14 rfl rfl)
theorem dX0_could_61 : decode cX0_could 61 = .ok (.iand, 1) := dk_126 (dk_at dksX0_could_2 16 rfl rfl)
theorem dX0_could_62 : decode cX0_could 62 = .ok (.istore 4, 2) := dk_54 4 (dk_at dksX0_could_2 17 rfl rfl)
theorem dX0_could_64 : decode cX0_could 64 = .ok (.iload 5, 2) := dk_21 5 (dk_at dksX0_could_2 19 rfl rfl)
theorem dX0_could_66 : decode cX0_could 66 = .ok (.iload 6, 2) := dk_21 6 (dk_at dksX0_could_2 21 rfl rfl)
theorem dX0_could_68 : decode cX0_could 68 = .ok (.ior, 1) := dk_128 (dk_at dksX0_could_2 23 rfl rfl)
theorem dX0_could_69 : decode cX0_could 69 = .ok (.istore 5, 2) := dk_54 5 (dk_at dksX0_could_3 0 rfl rfl)
theorem dX0_could_71 : decode cX0_could 71 = .ok (.iinc 6 1, 3) := dk_132 6 1 (dk_at dksX0_could_3 2 rfl rfl)
theorem dX0_could_74 : decode cX0_could 74 = .ok (.goto (-41), 3) := dk_167 255 215 (dk_at dksX0_could_3 5 rfl rfl)
theorem dX0_could_77 : decode cX0_could 77 = .ok (.iload_n 2, 1) := dk_28 (dk_at dksX0_could_3 8 rfl rfl)
theorem dX0_could_78 : decode cX0_could 78 = .ok (.ifCond .ne 7, 3) := dk_154 0 7 (dk_at dksX0_could_3 9 rfl rfl)
theorem dX0_could_81 : decode cX0_could 81 = .ok (.iload_n 3, 1) := dk_29 (dk_at dksX0_could_3 12 rfl rfl)
theorem dX0_could_82 : decode cX0_could 82 = .ok (.goto 29, 3) := dk_167 0 29 (dk_at dksX0_could_3 13 rfl rfl)
theorem dX0_could_85 : decode cX0_could 85 = .ok (.iload_n 3, 1) := dk_29 (dk_at dksX0_could_3 16 rfl rfl)
theorem dX0_could_86 : decode cX0_could 86 = .ok (.ifCond .ne 7, 3) := dk_154 0 7 (dk_at dksX0_could_3 17 rfl rfl)
theorem dX0_could_89 : decode cX0_could 89 = .ok (.iconst (-1), 1) := dk_2 (dk_at dksX0_could_3 20 rfl rfl)
theorem dX0_could_90 : decode cX0_could 90 = .ok (.goto 21, 3) := dk_167 0 21 (dk_at dksX0_could_3 21 rfl rfl)
theorem dX0_could_93 : decode cX0_could 93 = .ok (.iload_n 2, 1) := dk_28 (dk_at dksX0_could_4 0 rfl rfl)
theorem dX0_could_94 : decode cX0_could 94 = .ok (.iconst 1, 1) := dk_4 (dk_at dksX0_could_4 1 rfl rfl)
theorem dX0_could_95 : decode cX0_could 95 = .ok (.if_icmp .ne 8, 3) := dk_160 0 8 (dk_at dksX0_could_4 2 rfl rfl)
theorem dX0_could_98 : decode cX0_could 98 = .ok (.iload 4, 2) := dk_21 4 (dk_at dksX0_could_4 5 rfl rfl)
theorem dX0_could_100 : decode cX0_could 100 = .ok (.goto 11, 3) := dk_167 0 11 (dk_at dksX0_could_4 7 rfl rfl)
theorem dX0_could_103 : decode cX0_could 103 = .ok (.sipush 4095, 3) := dk_17 15 255 (dk_at dksX0_could_4 10 rfl rfl)
theorem dX0_could_106 : decode cX0_could 106 = .ok (.iload 5, 2) := dk_21 5 (dk_at dksX0_could_4 13 rfl rfl)
theorem dX0_could_108 : decode cX0_could 108 = .ok (.iconst (-1), 1) := dk_2 (dk_at dksX0_could_4 15 rfl rfl)
theorem dX0_could_109 : decode cX0_could 109 = .ok (.ixor, 1) := dk_130 (dk_at dksX0_could_4 16 rfl rfl)
theorem dX0_could_110 : decode cX0_could 110 = .ok (.iand, 1) := dk_126 (dk_at dksX0_could_4 17 rfl rfl)
theorem dX0_could_111 : decode cX0_could 111 = .ok (.ireturn, 1) := dk_172 (dk_at dksX0_could_4 18 rfl rfl)
abbrev cX0_canBe : ByteArray := prog_1_method_70_code
def yX0_canBe : MethodName := ⟨RX0, "canBe", "(II)Z"⟩
def dkwX0_canBe_2 : List UInt8 := [164, 0, 5, 3, 172, 132, 3, 1, 167, 255, 203, 4, 172]
abbrev dktX0_canBe_2 : List UInt8 := dkwX0_canBe_2 ++ []
def dkwX0_canBe_1 : List UInt8 := [58, 4, 27, 25, 4, 3, 46, 25, 4, 4, 46, 184, 1, 71, 25, 4, 5, 46, 100, 184, 1, 75, 28]
abbrev dktX0_canBe_1 : List UInt8 := dkwX0_canBe_1 ++ dktX0_canBe_2
def dkwX0_canBe_0 : List UInt8 := [3, 62, 29, 42, 180, 0, 21, 180, 0, 62, 7, 46, 162, 0, 46, 42, 180, 0, 21, 180, 1, 60, 29, 50]
abbrev dktX0_canBe_0 : List UInt8 := dkwX0_canBe_0 ++ dktX0_canBe_1
theorem dksX0_canBe_0 : cX0_canBe.data.toList.drop 0 = dktX0_canBe_0 := by decide +kernel
theorem dksX0_canBe_1 : cX0_canBe.data.toList.drop 24 = dktX0_canBe_1 := dk_seg dksX0_canBe_0 24 rfl rfl
theorem dksX0_canBe_2 : cX0_canBe.data.toList.drop 47 = dktX0_canBe_2 := dk_seg dksX0_canBe_1 23 rfl rfl
theorem dX0_canBe_0 : decode cX0_canBe 0 = .ok (.iconst 0, 1) := dk_3 (dk_at dksX0_canBe_0 0 rfl rfl)
theorem dX0_canBe_1 : decode cX0_canBe 1 = .ok (.istore_n 3, 1) := dk_62 (dk_at dksX0_canBe_0 1 rfl rfl)
theorem dX0_canBe_2 : decode cX0_canBe 2 = .ok (.iload_n 3, 1) := dk_29 (dk_at dksX0_canBe_0 2 rfl rfl)
theorem dX0_canBe_3 : decode cX0_canBe 3 = .ok (.aload_n 0, 1) := dk_42 (dk_at dksX0_canBe_0 3 rfl rfl)
theorem dX0_canBe_4 : decode cX0_canBe 4 = .ok (.getfield 21, 3) := dk_180 0 21 (dk_at dksX0_canBe_0 4 rfl rfl)
theorem dX0_canBe_7 : decode cX0_canBe 7 = .ok (.getfield 62, 3) := dk_180 0 62 (dk_at dksX0_canBe_0 7 rfl rfl)
theorem dX0_canBe_10 : decode cX0_canBe 10 = .ok (.iconst 4, 1) := dk_7 (dk_at dksX0_canBe_0 10 rfl rfl)
theorem dX0_canBe_11 : decode cX0_canBe 11 = .ok (.iaload, 1) := dk_46 (dk_at dksX0_canBe_0 11 rfl rfl)
theorem dX0_canBe_12 : decode cX0_canBe 12 = .ok (.if_icmp .ge 46, 3) := dk_162 0 46 (dk_at dksX0_canBe_0 12 rfl rfl)
theorem dX0_canBe_15 : decode cX0_canBe 15 = .ok (.aload_n 0, 1) := dk_42 (dk_at dksX0_canBe_0 15 rfl rfl)
theorem dX0_canBe_16 : decode cX0_canBe 16 = .ok (.getfield 21, 3) := dk_180 0 21 (dk_at dksX0_canBe_0 16 rfl rfl)
theorem dX0_canBe_19 : decode cX0_canBe 19 = .ok (.getfield 316, 3) := dk_180 1 60 (dk_at dksX0_canBe_0 19 rfl rfl)
theorem dX0_canBe_22 : decode cX0_canBe 22 = .ok (.iload_n 3, 1) := dk_29 (dk_at dksX0_canBe_0 22 rfl rfl)
theorem dX0_canBe_23 : decode cX0_canBe 23 = .ok (.aaload, 1) := dk_50 (dk_at dksX0_canBe_0 23 rfl rfl)
theorem dX0_canBe_24 : decode cX0_canBe 24 = .ok (.astore 4, 2) := dk_58 4 (dk_at dksX0_canBe_1 0 rfl rfl)
theorem dX0_canBe_26 : decode cX0_canBe 26 = .ok (.iload_n 1, 1) := dk_27 (dk_at dksX0_canBe_1 2 rfl rfl)
theorem dX0_canBe_27 : decode cX0_canBe 27 = .ok (.aload 4, 2) := dk_25 4 (dk_at dksX0_canBe_1 3 rfl rfl)
theorem dX0_canBe_29 : decode cX0_canBe 29 = .ok (.iconst 0, 1) := dk_3 (dk_at dksX0_canBe_1 5 rfl rfl)
theorem dX0_canBe_30 : decode cX0_canBe 30 = .ok (.iaload, 1) := dk_46 (dk_at dksX0_canBe_1 6 rfl rfl)
theorem dX0_canBe_31 : decode cX0_canBe 31 = .ok (.aload 4, 2) := dk_25 4 (dk_at dksX0_canBe_1 7 rfl rfl)
theorem dX0_canBe_33 : decode cX0_canBe 33 = .ok (.iconst 1, 1) := dk_4 (dk_at dksX0_canBe_1 9 rfl rfl)
theorem dX0_canBe_34 : decode cX0_canBe 34 = .ok (.iaload, 1) := dk_46 (dk_at dksX0_canBe_1 10 rfl rfl)
theorem dX0_canBe_35 : decode cX0_canBe 35 = .ok (.invokestatic 327, 3) := dk_184 1 71 (dk_at dksX0_canBe_1 11 rfl rfl)
theorem dX0_canBe_38 : decode cX0_canBe 38 = .ok (.aload 4, 2) := dk_25 4 (dk_at dksX0_canBe_1 14 rfl rfl)
theorem dX0_canBe_40 : decode cX0_canBe 40 = .ok (.iconst 2, 1) := dk_5 (dk_at dksX0_canBe_1 16 rfl rfl)
theorem dX0_canBe_41 : decode cX0_canBe 41 = .ok (.iaload, 1) := dk_46 (dk_at dksX0_canBe_1 17 rfl rfl)
theorem dX0_canBe_42 : decode cX0_canBe 42 = .ok (.isub, 1) := dk_100 (dk_at dksX0_canBe_1 18 rfl rfl)
theorem dX0_canBe_43 : decode cX0_canBe 43 = .ok (.invokestatic 331, 3) := dk_184 1 75 (dk_at dksX0_canBe_1 19 rfl rfl)
theorem dX0_canBe_46 : decode cX0_canBe 46 = .ok (.iload_n 2, 1) := dk_28 (dk_at dksX0_canBe_1 22 rfl rfl)
theorem dX0_canBe_47 : decode cX0_canBe 47 = .ok (.if_icmp .le 5, 3) := dk_164 0 5 (dk_at dksX0_canBe_2 0 rfl rfl)
theorem dX0_canBe_50 : decode cX0_canBe 50 = .ok (.iconst 0, 1) := dk_3 (dk_at dksX0_canBe_2 3 rfl rfl)
theorem dX0_canBe_51 : decode cX0_canBe 51 = .ok (.ireturn, 1) := dk_172 (dk_at dksX0_canBe_2 4 rfl rfl)
theorem dX0_canBe_52 : decode cX0_canBe 52 = .ok (.iinc 3 1, 3) := dk_132 3 1 (dk_at dksX0_canBe_2 5 rfl rfl)
theorem dX0_canBe_55 : decode cX0_canBe 55 = .ok (.goto (-53), 3) := dk_167 255 203 (dk_at dksX0_canBe_2 8 rfl rfl)
theorem dX0_canBe_58 : decode cX0_canBe 58 = .ok (.iconst 1, 1) := dk_4 (dk_at dksX0_canBe_2 11 rfl rfl)
theorem dX0_canBe_59 : decode cX0_canBe 59 = .ok (.ireturn, 1) := dk_172 (dk_at dksX0_canBe_2 12 rfl rfl)
abbrev cX0_barsOf : ByteArray := prog_1_method_69_code
def yX0_barsOf : MethodName := ⟨RX0, "barsOf", "(III)I"⟩
def dkwX0_barsOf_0 : List UInt8 := [26, 27, 122, 4, 28, 120, 4, 100, 126, 184, 1, 66, 172]
abbrev dktX0_barsOf_0 : List UInt8 := dkwX0_barsOf_0 ++ []
theorem dksX0_barsOf_0 : cX0_barsOf.data.toList.drop 0 = dktX0_barsOf_0 := by decide +kernel
theorem dX0_barsOf_0 : decode cX0_barsOf 0 = .ok (.iload_n 0, 1) := dk_26 (dk_at dksX0_barsOf_0 0 rfl rfl)
theorem dX0_barsOf_1 : decode cX0_barsOf 1 = .ok (.iload_n 1, 1) := dk_27 (dk_at dksX0_barsOf_0 1 rfl rfl)
theorem dX0_barsOf_2 : decode cX0_barsOf 2 = .ok (.ishr, 1) := dk_122 (dk_at dksX0_barsOf_0 2 rfl rfl)
theorem dX0_barsOf_3 : decode cX0_barsOf 3 = .ok (.iconst 1, 1) := dk_4 (dk_at dksX0_barsOf_0 3 rfl rfl)
theorem dX0_barsOf_4 : decode cX0_barsOf 4 = .ok (.iload_n 2, 1) := dk_28 (dk_at dksX0_barsOf_0 4 rfl rfl)
theorem dX0_barsOf_5 : decode cX0_barsOf 5 = .ok (.ishl, 1) := dk_120 (dk_at dksX0_barsOf_0 5 rfl rfl)
theorem dX0_barsOf_6 : decode cX0_barsOf 6 = .ok (.iconst 1, 1) := dk_4 (dk_at dksX0_barsOf_0 6 rfl rfl)
theorem dX0_barsOf_7 : decode cX0_barsOf 7 = .ok (.isub, 1) := dk_100 (dk_at dksX0_barsOf_0 7 rfl rfl)
theorem dX0_barsOf_8 : decode cX0_barsOf 8 = .ok (.iand, 1) := dk_126 (dk_at dksX0_barsOf_0 8 rfl rfl)
theorem dX0_barsOf_9 : decode cX0_barsOf 9 = .ok (.invokestatic 322, 3) := dk_184 1 66 (dk_at dksX0_barsOf_0 9 rfl rfl)
theorem dX0_barsOf_12 : decode cX0_barsOf 12 = .ok (.ireturn, 1) := dk_172 (dk_at dksX0_barsOf_0 12 rfl rfl)
abbrev cX0_ask : ByteArray := prog_1_method_73_code
def yX0_ask : MethodName := ⟨RX0, "ask", "(I)I"⟩
def dkwX0_ask_4 : List UInt8 := [28, 172]
abbrev dktX0_ask_4 : List UInt8 := dkwX0_ask_4 ++ []
def dkwX0_ask_3 : List UInt8 := [16, 100, 21, 4, 104, 21, 5, 96, 61, 21, 6, 62, 132, 5, 1, 167, 255, 211, 132, 4, 1, 167, 255, 195]
abbrev dktX0_ask_3 : List UInt8 := dkwX0_ask_3 ++ dktX0_ask_4
def dkwX0_ask_2 : List UInt8 := [163, 0, 41, 42, 27, 21, 4, 21, 5, 182, 1, 87, 54, 6, 21, 6, 29, 161, 0, 6, 167, 0, 15]
abbrev dktX0_ask_2 : List UInt8 := dkwX0_ask_2 ++ dktX0_ask_3
def dkwX0_ask_1 : List UInt8 := [19, 1, 86, 62, 3, 54, 4, 21, 4, 16, 12, 162, 0, 60, 4, 54, 5, 21, 5, 16, 12, 21, 4, 100]
abbrev dktX0_ask_1 : List UInt8 := dkwX0_ask_1 ++ dktX0_ask_2
def dkwX0_ask_0 : List UInt8 := [27, 3, 5, 184, 0, 58, 153, 0, 13, 42, 27, 3, 182, 1, 83, 5, 162, 0, 5, 2, 172, 2, 61]
abbrev dktX0_ask_0 : List UInt8 := dkwX0_ask_0 ++ dktX0_ask_1
theorem dksX0_ask_0 : cX0_ask.data.toList.drop 0 = dktX0_ask_0 := by decide +kernel
theorem dksX0_ask_1 : cX0_ask.data.toList.drop 23 = dktX0_ask_1 := dk_seg dksX0_ask_0 23 rfl rfl
theorem dksX0_ask_2 : cX0_ask.data.toList.drop 47 = dktX0_ask_2 := dk_seg dksX0_ask_1 24 rfl rfl
theorem dksX0_ask_3 : cX0_ask.data.toList.drop 70 = dktX0_ask_3 := dk_seg dksX0_ask_2 23 rfl rfl
theorem dksX0_ask_4 : cX0_ask.data.toList.drop 94 = dktX0_ask_4 := dk_seg dksX0_ask_3 24 rfl rfl
theorem dX0_ask_0 : decode cX0_ask 0 = .ok (.iload_n 1, 1) := dk_27 (dk_at dksX0_ask_0 0 rfl rfl)
theorem dX0_ask_1 : decode cX0_ask 1 = .ok (.iconst 0, 1) := dk_3 (dk_at dksX0_ask_0 1 rfl rfl)
theorem dX0_ask_2 : decode cX0_ask 2 = .ok (.iconst 2, 1) := dk_5 (dk_at dksX0_ask_0 2 rfl rfl)
theorem dX0_ask_3 : decode cX0_ask 3 = .ok (.invokestatic 58, 3) := dk_184 0 58 (dk_at dksX0_ask_0 3 rfl rfl)
theorem dX0_ask_6 : decode cX0_ask 6 = .ok (.ifCond .eq 13, 3) := dk_153 0 13 (dk_at dksX0_ask_0 6 rfl rfl)
theorem dX0_ask_9 : decode cX0_ask 9 = .ok (.aload_n 0, 1) := dk_42 (dk_at dksX0_ask_0 9 rfl rfl)
theorem dX0_ask_10 : decode cX0_ask 10 = .ok (.iload_n 1, 1) := dk_27 (dk_at dksX0_ask_0 10 rfl rfl)
theorem dX0_ask_11 : decode cX0_ask 11 = .ok (.iconst 0, 1) := dk_3 (dk_at dksX0_ask_0 11 rfl rfl)
theorem dX0_ask_12 : decode cX0_ask 12 = .ok (.invokevirtual 339, 3) := dk_182 1 83 (dk_at dksX0_ask_0 12 rfl rfl)
theorem dX0_ask_15 : decode cX0_ask 15 = .ok (.iconst 2, 1) := dk_5 (dk_at dksX0_ask_0 15 rfl rfl)
theorem dX0_ask_16 : decode cX0_ask 16 = .ok (.if_icmp .ge 5, 3) := dk_162 0 5 (dk_at dksX0_ask_0 16 rfl rfl)
theorem dX0_ask_19 : decode cX0_ask 19 = .ok (.iconst (-1), 1) := dk_2 (dk_at dksX0_ask_0 19 rfl rfl)
theorem dX0_ask_20 : decode cX0_ask 20 = .ok (.ireturn, 1) := dk_172 (dk_at dksX0_ask_0 20 rfl rfl)
theorem dX0_ask_21 : decode cX0_ask 21 = .ok (.iconst (-1), 1) := dk_2 (dk_at dksX0_ask_0 21 rfl rfl)
theorem dX0_ask_22 : decode cX0_ask 22 = .ok (.istore_n 2, 1) := dk_61 (dk_at dksX0_ask_0 22 rfl rfl)
theorem dX0_ask_23 : decode cX0_ask 23 = .ok (.ldc_w 342, 3) := dk_19 1 86 (dk_at dksX0_ask_1 0 rfl rfl)
theorem dX0_ask_26 : decode cX0_ask 26 = .ok (.istore_n 3, 1) := dk_62 (dk_at dksX0_ask_1 3 rfl rfl)
theorem dX0_ask_27 : decode cX0_ask 27 = .ok (.iconst 0, 1) := dk_3 (dk_at dksX0_ask_1 4 rfl rfl)
theorem dX0_ask_28 : decode cX0_ask 28 = .ok (.istore 4, 2) := dk_54 4 (dk_at dksX0_ask_1 5 rfl rfl)
theorem dX0_ask_30 : decode cX0_ask 30 = .ok (.iload 4, 2) := dk_21 4 (dk_at dksX0_ask_1 7 rfl rfl)
theorem dX0_ask_32 : decode cX0_ask 32 = .ok (.bipush 12, 2) := dk_16 12 (dk_at dksX0_ask_1 9 rfl rfl)
theorem dX0_ask_34 : decode cX0_ask 34 = .ok (.if_icmp .ge 60, 3) := dk_162 0 60 (dk_at dksX0_ask_1 11 rfl rfl)
theorem dX0_ask_37 : decode cX0_ask 37 = .ok (.iconst 1, 1) := dk_4 (dk_at dksX0_ask_1 14 rfl rfl)
theorem dX0_ask_38 : decode cX0_ask 38 = .ok (.istore 5, 2) := dk_54 5 (dk_at dksX0_ask_1 15 rfl rfl)
theorem dX0_ask_40 : decode cX0_ask 40 = .ok (.iload 5, 2) := dk_21 5 (dk_at dksX0_ask_1 17 rfl rfl)
theorem dX0_ask_42 : decode cX0_ask 42 = .ok (.bipush 12, 2) := dk_16 12 (dk_at dksX0_ask_1 19 rfl rfl)
theorem dX0_ask_44 : decode cX0_ask 44 = .ok (.iload 4, 2) := dk_21 4 (dk_at dksX0_ask_1 21 rfl rfl)
theorem dX0_ask_46 : decode cX0_ask 46 = .ok (.isub, 1) := dk_100 (dk_at dksX0_ask_1 23 rfl rfl)
theorem dX0_ask_47 : decode cX0_ask 47 = .ok (.if_icmp .gt 41, 3) := dk_163 0 41 (dk_at dksX0_ask_2 0 rfl rfl)
theorem dX0_ask_50 : decode cX0_ask 50 = .ok (.aload_n 0, 1) := dk_42 (dk_at dksX0_ask_2 3 rfl rfl)
theorem dX0_ask_51 : decode cX0_ask 51 = .ok (.iload_n 1, 1) := dk_27 (dk_at dksX0_ask_2 4 rfl rfl)
theorem dX0_ask_52 : decode cX0_ask 52 = .ok (.iload 4, 2) := dk_21 4 (dk_at dksX0_ask_2 5 rfl rfl)
theorem dX0_ask_54 : decode cX0_ask 54 = .ok (.iload 5, 2) := dk_21 5 (dk_at dksX0_ask_2 7 rfl rfl)
theorem dX0_ask_56 : decode cX0_ask 56 = .ok (.invokevirtual 343, 3) := dk_182 1 87 (dk_at dksX0_ask_2 9 rfl rfl)
theorem dX0_ask_59 : decode cX0_ask 59 = .ok (.istore 6, 2) := dk_54 6 (dk_at dksX0_ask_2 12 rfl rfl)
theorem dX0_ask_61 : decode cX0_ask 61 = .ok (.iload 6, 2) := dk_21 6 (dk_at dksX0_ask_2 14 rfl rfl)
theorem dX0_ask_63 : decode cX0_ask 63 = .ok (.iload_n 3, 1) := dk_29 (dk_at dksX0_ask_2 16 rfl rfl)
theorem dX0_ask_64 : decode cX0_ask 64 = .ok (.if_icmp .lt 6, 3) := dk_161 0 6 (dk_at dksX0_ask_2 17 rfl rfl)
theorem dX0_ask_67 : decode cX0_ask 67 = .ok (.goto 15, 3) := dk_167 0 15 (dk_at dksX0_ask_2 20 rfl rfl)
theorem dX0_ask_70 : decode cX0_ask 70 = .ok (.bipush 100, 2) := dk_16 100 (dk_at dksX0_ask_3 0 rfl rfl)
theorem dX0_ask_72 : decode cX0_ask 72 = .ok (.iload 4, 2) := dk_21 4 (dk_at dksX0_ask_3 2 rfl rfl)
theorem dX0_ask_74 : decode cX0_ask 74 = .ok (.imul, 1) := dk_104 (dk_at dksX0_ask_3 4 rfl rfl)
theorem dX0_ask_75 : decode cX0_ask 75 = .ok (.iload 5, 2) := dk_21 5 (dk_at dksX0_ask_3 5 rfl rfl)
theorem dX0_ask_77 : decode cX0_ask 77 = .ok (.iadd, 1) := dk_96 (dk_at dksX0_ask_3 7 rfl rfl)
theorem dX0_ask_78 : decode cX0_ask 78 = .ok (.istore_n 2, 1) := dk_61 (dk_at dksX0_ask_3 8 rfl rfl)
theorem dX0_ask_79 : decode cX0_ask 79 = .ok (.iload 6, 2) := dk_21 6 (dk_at dksX0_ask_3 9 rfl rfl)
theorem dX0_ask_81 : decode cX0_ask 81 = .ok (.istore_n 3, 1) := dk_62 (dk_at dksX0_ask_3 11 rfl rfl)
theorem dX0_ask_82 : decode cX0_ask 82 = .ok (.iinc 5 1, 3) := dk_132 5 1 (dk_at dksX0_ask_3 12 rfl rfl)
theorem dX0_ask_85 : decode cX0_ask 85 = .ok (.goto (-45), 3) := dk_167 255 211 (dk_at dksX0_ask_3 15 rfl rfl)
theorem dX0_ask_88 : decode cX0_ask 88 = .ok (.iinc 4 1, 3) := dk_132 4 1 (dk_at dksX0_ask_3 18 rfl rfl)
theorem dX0_ask_91 : decode cX0_ask 91 = .ok (.goto (-61), 3) := dk_167 255 195 (dk_at dksX0_ask_3 21 rfl rfl)
theorem dX0_ask_94 : decode cX0_ask 94 = .ok (.iload_n 2, 1) := dk_28 (dk_at dksX0_ask_4 0 rfl rfl)
theorem dX0_ask_95 : decode cX0_ask 95 = .ok (.ireturn, 1) := dk_172 (dk_at dksX0_ask_4 1 rfl rfl)
abbrev cX0_leftBy : ByteArray := prog_1_method_72_code
def yX0_leftBy : MethodName := ⟨RX0, "leftBy", "(III)I"⟩
def dkwX0_leftBy_2 : List UInt8 := [4, 96, 79, 21, 5, 25, 4, 21, 7, 46, 184, 1, 81, 54, 5, 132, 6, 1, 167, 255, 202, 21, 5, 172]
abbrev dktX0_leftBy_2 : List UInt8 := dkwX0_leftBy_2 ++ []
def dkwX0_leftBy_1 : List UInt8 := [182, 1, 78, 154, 0, 6, 167, 0, 33, 21, 6, 28, 29, 184, 1, 71, 54, 7, 25, 4, 21, 7, 92, 46]
abbrev dktX0_leftBy_1 : List UInt8 := dkwX0_leftBy_1 ++ dktX0_leftBy_2
def dkwX0_leftBy_0 : List UInt8 := [16, 13, 188, 10, 58, 4, 3, 54, 5, 3, 54, 6, 21, 6, 17, 16, 0, 162, 0, 52, 42, 21, 6, 27]
abbrev dktX0_leftBy_0 : List UInt8 := dkwX0_leftBy_0 ++ dktX0_leftBy_1
theorem dksX0_leftBy_0 : cX0_leftBy.data.toList.drop 0 = dktX0_leftBy_0 := by decide +kernel
theorem dksX0_leftBy_1 : cX0_leftBy.data.toList.drop 24 = dktX0_leftBy_1 := dk_seg dksX0_leftBy_0 24 rfl rfl
theorem dksX0_leftBy_2 : cX0_leftBy.data.toList.drop 48 = dktX0_leftBy_2 := dk_seg dksX0_leftBy_1 24 rfl rfl
theorem dX0_leftBy_0 : decode cX0_leftBy 0 = .ok (.bipush 13, 2) := dk_16 13 (dk_at dksX0_leftBy_0 0 rfl rfl)
theorem dX0_leftBy_2 : decode cX0_leftBy 2 = .ok (.newarray .int, 2) := dk_188_10 (dk_at dksX0_leftBy_0 2 rfl rfl)
theorem dX0_leftBy_4 : decode cX0_leftBy 4 = .ok (.astore 4, 2) := dk_58 4 (dk_at dksX0_leftBy_0 4 rfl rfl)
theorem dX0_leftBy_6 : decode cX0_leftBy 6 = .ok (.iconst 0, 1) := dk_3 (dk_at dksX0_leftBy_0 6 rfl rfl)
theorem dX0_leftBy_7 : decode cX0_leftBy 7 = .ok (.istore 5, 2) := dk_54 5 (dk_at dksX0_leftBy_0 7 rfl rfl)
theorem dX0_leftBy_9 : decode cX0_leftBy 9 = .ok (.iconst 0, 1) := dk_3 (dk_at dksX0_leftBy_0 9 rfl rfl)
theorem dX0_leftBy_10 : decode cX0_leftBy 10 = .ok (.istore 6, 2) := dk_54 6 (dk_at dksX0_leftBy_0 10 rfl rfl)
theorem dX0_leftBy_12 : decode cX0_leftBy 12 = .ok (.iload 6, 2) := dk_21 6 (dk_at dksX0_leftBy_0 12 rfl rfl)
theorem dX0_leftBy_14 : decode cX0_leftBy 14 = .ok (.sipush 4096, 3) := dk_17 16 0 (dk_at dksX0_leftBy_0 14 rfl rfl)
theorem dX0_leftBy_17 : decode cX0_leftBy 17 = .ok (.if_icmp .ge 52, 3) := dk_162 0 52 (dk_at dksX0_leftBy_0 17 rfl rfl)
theorem dX0_leftBy_20 : decode cX0_leftBy 20 = .ok (.aload_n 0, 1) := dk_42 (dk_at dksX0_leftBy_0 20 rfl rfl)
theorem dX0_leftBy_21 : decode cX0_leftBy 21 = .ok (.iload 6, 2) := dk_21 6 (dk_at dksX0_leftBy_0 21 rfl rfl)
theorem dX0_leftBy_23 : decode cX0_leftBy 23 = .ok (.iload_n 1, 1) := dk_27 (dk_at dksX0_leftBy_0 23 rfl rfl)
theorem dX0_leftBy_24 : decode cX0_leftBy 24 = .ok (.invokevirtual 334, 3) := dk_182 1 78 (dk_at dksX0_leftBy_1 0 rfl rfl)
theorem dX0_leftBy_27 : decode cX0_leftBy 27 = .ok (.ifCond .ne 6, 3) := dk_154 0 6 (dk_at dksX0_leftBy_1 3 rfl rfl)
theorem dX0_leftBy_30 : decode cX0_leftBy 30 = .ok (.goto 33, 3) := dk_167 0 33 (dk_at dksX0_leftBy_1 6 rfl rfl)
theorem dX0_leftBy_33 : decode cX0_leftBy 33 = .ok (.iload 6, 2) := dk_21 6 (dk_at dksX0_leftBy_1 9 rfl rfl)
theorem dX0_leftBy_35 : decode cX0_leftBy 35 = .ok (.iload_n 2, 1) := dk_28 (dk_at dksX0_leftBy_1 11 rfl rfl)
theorem dX0_leftBy_36 : decode cX0_leftBy 36 = .ok (.iload_n 3, 1) := dk_29 (dk_at dksX0_leftBy_1 12 rfl rfl)
theorem dX0_leftBy_37 : decode cX0_leftBy 37 = .ok (.invokestatic 327, 3) := dk_184 1 71 (dk_at dksX0_leftBy_1 13 rfl rfl)
theorem dX0_leftBy_40 : decode cX0_leftBy 40 = .ok (.istore 7, 2) := dk_54 7 (dk_at dksX0_leftBy_1 16 rfl rfl)
theorem dX0_leftBy_42 : decode cX0_leftBy 42 = .ok (.aload 4, 2) := dk_25 4 (dk_at dksX0_leftBy_1 18 rfl rfl)
theorem dX0_leftBy_44 : decode cX0_leftBy 44 = .ok (.iload 7, 2) := dk_21 7 (dk_at dksX0_leftBy_1 20 rfl rfl)
theorem dX0_leftBy_46 : decode cX0_leftBy 46 = .ok (.dup2, 1) := dk_92 (dk_at dksX0_leftBy_1 22 rfl rfl)
theorem dX0_leftBy_47 : decode cX0_leftBy 47 = .ok (.iaload, 1) := dk_46 (dk_at dksX0_leftBy_1 23 rfl rfl)
theorem dX0_leftBy_48 : decode cX0_leftBy 48 = .ok (.iconst 1, 1) := dk_4 (dk_at dksX0_leftBy_2 0 rfl rfl)
theorem dX0_leftBy_49 : decode cX0_leftBy 49 = .ok (.iadd, 1) := dk_96 (dk_at dksX0_leftBy_2 1 rfl rfl)
theorem dX0_leftBy_50 : decode cX0_leftBy 50 = .ok (.iastore, 1) := dk_79 (dk_at dksX0_leftBy_2 2 rfl rfl)
theorem dX0_leftBy_51 : decode cX0_leftBy 51 = .ok (.iload 5, 2) := dk_21 5 (dk_at dksX0_leftBy_2 3 rfl rfl)
theorem dX0_leftBy_53 : decode cX0_leftBy 53 = .ok (.aload 4, 2) := dk_25 4 (dk_at dksX0_leftBy_2 5 rfl rfl)
theorem dX0_leftBy_55 : decode cX0_leftBy 55 = .ok (.iload 7, 2) := dk_21 7 (dk_at dksX0_leftBy_2 7 rfl rfl)
theorem dX0_leftBy_57 : decode cX0_leftBy 57 = .ok (.iaload, 1) := dk_46 (dk_at dksX0_leftBy_2 9 rfl rfl)
theorem dX0_leftBy_58 : decode cX0_leftBy 58 = .ok (.invokestatic 337, 3) := dk_184 1 81 (dk_at dksX0_leftBy_2 10 rfl rfl)
theorem dX0_leftBy_61 : decode cX0_leftBy 61 = .ok (.istore 5, 2) := dk_54 5 (dk_at dksX0_leftBy_2 13 rfl rfl)
theorem dX0_leftBy_63 : decode cX0_leftBy 63 = .ok (.iinc 6 1, 3) := dk_132 6 1 (dk_at dksX0_leftBy_2 15 rfl rfl)
theorem dX0_leftBy_66 : decode cX0_leftBy 66 = .ok (.goto (-54), 3) := dk_167 255 202 (dk_at dksX0_leftBy_2 18 rfl rfl)
theorem dX0_leftBy_69 : decode cX0_leftBy 69 = .ok (.iload 5, 2) := dk_21 5 (dk_at dksX0_leftBy_2 21 rfl rfl)
theorem dX0_leftBy_71 : decode cX0_leftBy 71 = .ok (.ireturn, 1) := dk_172 (dk_at dksX0_leftBy_2 23 rfl rfl)
abbrev cX0_sings : ByteArray := prog_1_method_76_code
def yX0_sings : MethodName := ⟨RX0, "sings", "(IIZ)I"⟩
def dkwX0_sings_3 : List UInt8 := [28, 160, 0, 7, 2, 167, 0, 5, 21, 4, 172]
abbrev dktX0_sings_3 : List UInt8 := dkwX0_sings_3 ++ []
def dkwX0_sings_2 : List UInt8 := [21, 4, 28, 182, 1, 90, 42, 180, 0, 51, 27, 50, 28, 46, 159, 0, 9, 132, 4, 1, 167, 255, 228, 27]
abbrev dktX0_sings_2 : List UInt8 := dkwX0_sings_2 ++ dktX0_sings_3
def dkwX0_sings_1 : List UInt8 := [154, 0, 12, 42, 180, 0, 51, 27, 50, 28, 46, 172, 27, 54, 4, 21, 4, 28, 162, 0, 28, 42, 27]
abbrev dktX0_sings_1 : List UInt8 := dkwX0_sings_1 ++ dktX0_sings_2
def dkwX0_sings_0 : List UInt8 := [27, 184, 0, 68, 153, 0, 13, 28, 27, 16, 29, 184, 0, 58, 154, 0, 5, 2, 172, 42, 182, 1, 93, 29]
abbrev dktX0_sings_0 : List UInt8 := dkwX0_sings_0 ++ dktX0_sings_1
theorem dksX0_sings_0 : cX0_sings.data.toList.drop 0 = dktX0_sings_0 := by decide +kernel
theorem dksX0_sings_1 : cX0_sings.data.toList.drop 24 = dktX0_sings_1 := dk_seg dksX0_sings_0 24 rfl rfl
theorem dksX0_sings_2 : cX0_sings.data.toList.drop 47 = dktX0_sings_2 := dk_seg dksX0_sings_1 23 rfl rfl
theorem dksX0_sings_3 : cX0_sings.data.toList.drop 71 = dktX0_sings_3 := dk_seg dksX0_sings_2 24 rfl rfl
theorem dX0_sings_0 : decode cX0_sings 0 = .ok (.iload_n 1, 1) := dk_27 (dk_at dksX0_sings_0 0 rfl rfl)
theorem dX0_sings_1 : decode cX0_sings 1 = .ok (.invokestatic 68, 3) := dk_184 0 68 (dk_at dksX0_sings_0 1 rfl rfl)
theorem dX0_sings_4 : decode cX0_sings 4 = .ok (.ifCond .eq 13, 3) := dk_153 0 13 (dk_at dksX0_sings_0 4 rfl rfl)
theorem dX0_sings_7 : decode cX0_sings 7 = .ok (.iload_n 2, 1) := dk_28 (dk_at dksX0_sings_0 7 rfl rfl)
theorem dX0_sings_8 : decode cX0_sings 8 = .ok (.iload_n 1, 1) := dk_27 (dk_at dksX0_sings_0 8 rfl rfl)
theorem dX0_sings_9 : decode cX0_sings 9 = .ok (.bipush 29, 2) := dk_16 29 (dk_at dksX0_sings_0 9 rfl rfl)
theorem dX0_sings_11 : decode cX0_sings 11 = .ok (.invokestatic 58, 3) := dk_184 0 58 (dk_at dksX0_sings_0 11 rfl rfl)
theorem dX0_sings_14 : decode cX0_sings 14 = .ok (.ifCond .ne 5, 3) := dk_154 0 5 (dk_at dksX0_sings_0 14 rfl rfl)
theorem dX0_sings_17 : decode cX0_sings 17 = .ok (.iconst (-1), 1) := dk_2 (dk_at dksX0_sings_0 17 rfl rfl)
theorem dX0_sings_18 : decode cX0_sings 18 = .ok (.ireturn, 1) := dk_172 (dk_at dksX0_sings_0 18 rfl rfl)
theorem dX0_sings_19 : decode cX0_sings 19 = .ok (.aload_n 0, 1) := dk_42 (dk_at dksX0_sings_0 19 rfl rfl)
theorem dX0_sings_20 : decode cX0_sings 20 = .ok (.invokevirtual 349, 3) := dk_182 1 93 (dk_at dksX0_sings_0 20 rfl rfl)
theorem dX0_sings_23 : decode cX0_sings 23 = .ok (.iload_n 3, 1) := dk_29 (dk_at dksX0_sings_0 23 rfl rfl)
theorem dX0_sings_24 : decode cX0_sings 24 = .ok (.ifCond .ne 12, 3) := dk_154 0 12 (dk_at dksX0_sings_1 0 rfl rfl)
theorem dX0_sings_27 : decode cX0_sings 27 = .ok (.aload_n 0, 1) := dk_42 (dk_at dksX0_sings_1 3 rfl rfl)
theorem dX0_sings_28 : decode cX0_sings 28 = .ok (.getfield 51, 3) := dk_180 0 51 (dk_at dksX0_sings_1 4 rfl rfl)
theorem dX0_sings_31 : decode cX0_sings 31 = .ok (.iload_n 1, 1) := dk_27 (dk_at dksX0_sings_1 7 rfl rfl)
theorem dX0_sings_32 : decode cX0_sings 32 = .ok (.aaload, 1) := dk_50 (dk_at dksX0_sings_1 8 rfl rfl)
theorem dX0_sings_33 : decode cX0_sings 33 = .ok (.iload_n 2, 1) := dk_28 (dk_at dksX0_sings_1 9 rfl rfl)
theorem dX0_sings_34 : decode cX0_sings 34 = .ok (.iaload, 1) := dk_46 (dk_at dksX0_sings_1 10 rfl rfl)
theorem dX0_sings_35 : decode cX0_sings 35 = .ok (.ireturn, 1) := dk_172 (dk_at dksX0_sings_1 11 rfl rfl)
theorem dX0_sings_36 : decode cX0_sings 36 = .ok (.iload_n 1, 1) := dk_27 (dk_at dksX0_sings_1 12 rfl rfl)
theorem dX0_sings_37 : decode cX0_sings 37 = .ok (.istore 4, 2) := dk_54 4 (dk_at dksX0_sings_1 13 rfl rfl)
theorem dX0_sings_39 : decode cX0_sings 39 = .ok (.iload 4, 2) := dk_21 4 (dk_at dksX0_sings_1 15 rfl rfl)
theorem dX0_sings_41 : decode cX0_sings 41 = .ok (.iload_n 2, 1) := dk_28 (dk_at dksX0_sings_1 17 rfl rfl)
theorem dX0_sings_42 : decode cX0_sings 42 = .ok (.if_icmp .ge 28, 3) := dk_162 0 28 (dk_at dksX0_sings_1 18 rfl rfl)
theorem dX0_sings_45 : decode cX0_sings 45 = .ok (.aload_n 0, 1) := dk_42 (dk_at dksX0_sings_1 21 rfl rfl)
theorem dX0_sings_46 : decode cX0_sings 46 = .ok (.iload_n 1, 1) := dk_27 (dk_at dksX0_sings_1 22 rfl rfl)
theorem dX0_sings_47 : decode cX0_sings 47 = .ok (.iload 4, 2) := dk_21 4 (dk_at dksX0_sings_2 0 rfl rfl)
theorem dX0_sings_49 : decode cX0_sings 49 = .ok (.iload_n 2, 1) := dk_28 (dk_at dksX0_sings_2 2 rfl rfl)
theorem dX0_sings_50 : decode cX0_sings 50 = .ok (.invokevirtual 346, 3) := dk_182 1 90 (dk_at dksX0_sings_2 3 rfl rfl)
theorem dX0_sings_53 : decode cX0_sings 53 = .ok (.aload_n 0, 1) := dk_42 (dk_at dksX0_sings_2 6 rfl rfl)
theorem dX0_sings_54 : decode cX0_sings 54 = .ok (.getfield 51, 3) := dk_180 0 51 (dk_at dksX0_sings_2 7 rfl rfl)
theorem dX0_sings_57 : decode cX0_sings 57 = .ok (.iload_n 1, 1) := dk_27 (dk_at dksX0_sings_2 10 rfl rfl)
theorem dX0_sings_58 : decode cX0_sings 58 = .ok (.aaload, 1) := dk_50 (dk_at dksX0_sings_2 11 rfl rfl)
theorem dX0_sings_59 : decode cX0_sings 59 = .ok (.iload_n 2, 1) := dk_28 (dk_at dksX0_sings_2 12 rfl rfl)
theorem dX0_sings_60 : decode cX0_sings 60 = .ok (.iaload, 1) := dk_46 (dk_at dksX0_sings_2 13 rfl rfl)
theorem dX0_sings_61 : decode cX0_sings 61 = .ok (.if_icmp .eq 9, 3) := dk_159 0 9 (dk_at dksX0_sings_2 14 rfl rfl)
theorem dX0_sings_64 : decode cX0_sings 64 = .ok (.iinc 4 1, 3) := dk_132 4 1 (dk_at dksX0_sings_2 17 rfl rfl)
theorem dX0_sings_67 : decode cX0_sings 67 = .ok (.goto (-28), 3) := dk_167 255 228 (dk_at dksX0_sings_2 20 rfl rfl)
theorem dX0_sings_70 : decode cX0_sings 70 = .ok (.iload_n 1, 1) := dk_27 (dk_at dksX0_sings_2 23 rfl rfl)
theorem dX0_sings_71 : decode cX0_sings 71 = .ok (.iload_n 2, 1) := dk_28 (dk_at dksX0_sings_3 0 rfl rfl)
theorem dX0_sings_72 : decode cX0_sings 72 = .ok (.if_icmp .ne 7, 3) := dk_160 0 7 (dk_at dksX0_sings_3 1 rfl rfl)
theorem dX0_sings_75 : decode cX0_sings 75 = .ok (.iconst (-1), 1) := dk_2 (dk_at dksX0_sings_3 4 rfl rfl)
theorem dX0_sings_76 : decode cX0_sings 76 = .ok (.goto 5, 3) := dk_167 0 5 (dk_at dksX0_sings_3 5 rfl rfl)
theorem dX0_sings_79 : decode cX0_sings 79 = .ok (.iload 4, 2) := dk_21 4 (dk_at dksX0_sings_3 8 rfl rfl)
theorem dX0_sings_81 : decode cX0_sings 81 = .ok (.ireturn, 1) := dk_172 (dk_at dksX0_sings_3 10 rfl rfl)
abbrev cX0_laysCosts : ByteArray := prog_1_method_75_code
def yX0_laysCosts : MethodName := ⟨RX0, "laysCosts", "()V"⟩
def dkwX0_laysCosts_3 : List UInt8 := [79, 132, 3, 1, 167, 255, 222, 132, 2, 1, 167, 255, 197, 132, 1, 255, 167, 255, 174, 177]
abbrev dktX0_laysCosts_3 : List UInt8 := dkwX0_laysCosts_3 ++ []
def dkwX0_laysCosts_2 : List UInt8 := [180, 0, 51, 27, 50, 28, 42, 180, 0, 51, 27, 50, 28, 46, 42, 27, 29, 28, 182, 1, 90, 184, 0, 189]
abbrev dktX0_laysCosts_2 : List UInt8 := dkwX0_laysCosts_2 ++ dktX0_laysCosts_3
def dkwX0_laysCosts_1 : List UInt8 := [162, 0, 59, 42, 180, 0, 51, 27, 50, 28, 19, 1, 86, 79, 27, 62, 29, 28, 162, 0, 35, 42]
abbrev dktX0_laysCosts_1 : List UInt8 := dkwX0_laysCosts_1 ++ dktX0_laysCosts_2
def dkwX0_laysCosts_0 : List UInt8 := [16, 29, 60, 27, 155, 0, 84, 42, 180, 0, 51, 27, 50, 27, 3, 79, 27, 4, 96, 61, 28, 16, 30]
abbrev dktX0_laysCosts_0 : List UInt8 := dkwX0_laysCosts_0 ++ dktX0_laysCosts_1
theorem dksX0_laysCosts_0 : cX0_laysCosts.data.toList.drop 0 = dktX0_laysCosts_0 := by decide +kernel
theorem dksX0_laysCosts_1 : cX0_laysCosts.data.toList.drop 23 = dktX0_laysCosts_1 := dk_seg dksX0_laysCosts_0 23 rfl rfl
theorem dksX0_laysCosts_2 : cX0_laysCosts.data.toList.drop 45 = dktX0_laysCosts_2 := dk_seg dksX0_laysCosts_1 22 rfl rfl
theorem dksX0_laysCosts_3 : cX0_laysCosts.data.toList.drop 69 = dktX0_laysCosts_3 := dk_seg dksX0_laysCosts_2 24 rfl rfl
theorem dX0_laysCosts_0 : decode cX0_laysCosts 0 = .ok (.bipush 29, 2) := dk_16 29 (dk_at dksX0_laysCosts_0 0 rfl rfl)
theorem dX0_laysCosts_2 : decode cX0_laysCosts 2 = .ok (.istore_n 1, 1) := dk_60 (dk_at dksX0_laysCosts_0 2 rfl rfl)
theorem dX0_laysCosts_3 : decode cX0_laysCosts 3 = .ok (.iload_n 1, 1) := dk_27 (dk_at dksX0_laysCosts_0 3 rfl rfl)
theorem dX0_laysCosts_4 : decode cX0_laysCosts 4 = .ok (.ifCond .lt 84, 3) := dk_155 0 84 (dk_at dksX0_laysCosts_0 4 rfl rfl)
theorem dX0_laysCosts_7 : decode cX0_laysCosts 7 = .ok (.aload_n 0, 1) := dk_42 (dk_at dksX0_laysCosts_0 7 rfl rfl)
theorem dX0_laysCosts_8 : decode cX0_laysCosts 8 = .ok (.getfield 51, 3) := dk_180 0 51 (dk_at dksX0_laysCosts_0 8 rfl rfl)
theorem dX0_laysCosts_11 : decode cX0_laysCosts 11 = .ok (.iload_n 1, 1) := dk_27 (dk_at dksX0_laysCosts_0 11 rfl rfl)
theorem dX0_laysCosts_12 : decode cX0_laysCosts 12 = .ok (.aaload, 1) := dk_50 (dk_at dksX0_laysCosts_0 12 rfl rfl)
theorem dX0_laysCosts_13 : decode cX0_laysCosts 13 = .ok (.iload_n 1, 1) := dk_27 (dk_at dksX0_laysCosts_0 13 rfl rfl)
theorem dX0_laysCosts_14 : decode cX0_laysCosts 14 = .ok (.iconst 0, 1) := dk_3 (dk_at dksX0_laysCosts_0 14 rfl rfl)
theorem dX0_laysCosts_15 : decode cX0_laysCosts 15 = .ok (.iastore, 1) := dk_79 (dk_at dksX0_laysCosts_0 15 rfl rfl)
theorem dX0_laysCosts_16 : decode cX0_laysCosts 16 = .ok (.iload_n 1, 1) := dk_27 (dk_at dksX0_laysCosts_0 16 rfl rfl)
theorem dX0_laysCosts_17 : decode cX0_laysCosts 17 = .ok (.iconst 1, 1) := dk_4 (dk_at dksX0_laysCosts_0 17 rfl rfl)
theorem dX0_laysCosts_18 : decode cX0_laysCosts 18 = .ok (.iadd, 1) := dk_96 (dk_at dksX0_laysCosts_0 18 rfl rfl)
theorem dX0_laysCosts_19 : decode cX0_laysCosts 19 = .ok (.istore_n 2, 1) := dk_61 (dk_at dksX0_laysCosts_0 19 rfl rfl)
theorem dX0_laysCosts_20 : decode cX0_laysCosts 20 = .ok (.iload_n 2, 1) := dk_28 (dk_at dksX0_laysCosts_0 20 rfl rfl)
theorem dX0_laysCosts_21 : decode cX0_laysCosts 21 = .ok (.bipush 30, 2) := dk_16 30 (dk_at dksX0_laysCosts_0 21 rfl rfl)
theorem dX0_laysCosts_23 : decode cX0_laysCosts 23 = .ok (.if_icmp .ge 59, 3) := dk_162 0 59 (dk_at dksX0_laysCosts_1 0 rfl rfl)
theorem dX0_laysCosts_26 : decode cX0_laysCosts 26 = .ok (.aload_n 0, 1) := dk_42 (dk_at dksX0_laysCosts_1 3 rfl rfl)
theorem dX0_laysCosts_27 : decode cX0_laysCosts 27 = .ok (.getfield 51, 3) := dk_180 0 51 (dk_at dksX0_laysCosts_1 4 rfl rfl)
theorem dX0_laysCosts_30 : decode cX0_laysCosts 30 = .ok (.iload_n 1, 1) := dk_27 (dk_at dksX0_laysCosts_1 7 rfl rfl)
theorem dX0_laysCosts_31 : decode cX0_laysCosts 31 = .ok (.aaload, 1) := dk_50 (dk_at dksX0_laysCosts_1 8 rfl rfl)
theorem dX0_laysCosts_32 : decode cX0_laysCosts 32 = .ok (.iload_n 2, 1) := dk_28 (dk_at dksX0_laysCosts_1 9 rfl rfl)
theorem dX0_laysCosts_33 : decode cX0_laysCosts 33 = .ok (.ldc_w 342, 3) := dk_19 1 86 (dk_at dksX0_laysCosts_1 10 rfl rfl)
theorem dX0_laysCosts_36 : decode cX0_laysCosts 36 = .ok (.iastore, 1) := dk_79 (dk_at dksX0_laysCosts_1 13 rfl rfl)
theorem dX0_laysCosts_37 : decode cX0_laysCosts 37 = .ok (.iload_n 1, 1) := dk_27 (dk_at dksX0_laysCosts_1 14 rfl rfl)
theorem dX0_laysCosts_38 : decode cX0_laysCosts 38 = .ok (.istore_n 3, 1) := dk_62 (dk_at dksX0_laysCosts_1 15 rfl rfl)
theorem dX0_laysCosts_39 : decode cX0_laysCosts 39 = .ok (.iload_n 3, 1) := dk_29 (dk_at dksX0_laysCosts_1 16 rfl rfl)
theorem dX0_laysCosts_40 : decode cX0_laysCosts 40 = .ok (.iload_n 2, 1) := dk_28 (dk_at dksX0_laysCosts_1 17 rfl rfl)
theorem dX0_laysCosts_41 : decode cX0_laysCosts 41 = .ok (.if_icmp .ge 35, 3) := dk_162 0 35 (dk_at dksX0_laysCosts_1 18 rfl rfl)
theorem dX0_laysCosts_44 : decode cX0_laysCosts 44 = .ok (.aload_n 0, 1) := dk_42 (dk_at dksX0_laysCosts_1 21 rfl rfl)
theorem dX0_laysCosts_45 : decode cX0_laysCosts 45 = .ok (.getfield 51, 3) := dk_180 0 51 (dk_at dksX0_laysCosts_2 0 rfl rfl)
theorem dX0_laysCosts_48 : decode cX0_laysCosts 48 = .ok (.iload_n 1, 1) := dk_27 (dk_at dksX0_laysCosts_2 3 rfl rfl)
theorem dX0_laysCosts_49 : decode cX0_laysCosts 49 = .ok (.aaload, 1) := dk_50 (dk_at dksX0_laysCosts_2 4 rfl rfl)
theorem dX0_laysCosts_50 : decode cX0_laysCosts 50 = .ok (.iload_n 2, 1) := dk_28 (dk_at dksX0_laysCosts_2 5 rfl rfl)
theorem dX0_laysCosts_51 : decode cX0_laysCosts 51 = .ok (.aload_n 0, 1) := dk_42 (dk_at dksX0_laysCosts_2 6 rfl rfl)
theorem dX0_laysCosts_52 : decode cX0_laysCosts 52 = .ok (.getfield 51, 3) := dk_180 0 51 (dk_at dksX0_laysCosts_2 7 rfl rfl)
theorem dX0_laysCosts_55 : decode cX0_laysCosts 55 = .ok (.iload_n 1, 1) := dk_27 (dk_at dksX0_laysCosts_2 10 rfl rfl)
theorem dX0_laysCosts_56 : decode cX0_laysCosts 56 = .ok (.aaload, 1) := dk_50 (dk_at dksX0_laysCosts_2 11 rfl rfl)
theorem dX0_laysCosts_57 : decode cX0_laysCosts 57 = .ok (.iload_n 2, 1) := dk_28 (dk_at dksX0_laysCosts_2 12 rfl rfl)
theorem dX0_laysCosts_58 : decode cX0_laysCosts 58 = .ok (.iaload, 1) := dk_46 (dk_at dksX0_laysCosts_2 13 rfl rfl)
theorem dX0_laysCosts_59 : decode cX0_laysCosts 59 = .ok (.aload_n 0, 1) := dk_42 (dk_at dksX0_laysCosts_2 14 rfl rfl)
theorem dX0_laysCosts_60 : decode cX0_laysCosts 60 = .ok (.iload_n 1, 1) := dk_27 (dk_at dksX0_laysCosts_2 15 rfl rfl)
theorem dX0_laysCosts_61 : decode cX0_laysCosts 61 = .ok (.iload_n 3, 1) := dk_29 (dk_at dksX0_laysCosts_2 16 rfl rfl)
theorem dX0_laysCosts_62 : decode cX0_laysCosts 62 = .ok (.iload_n 2, 1) := dk_28 (dk_at dksX0_laysCosts_2 17 rfl rfl)
theorem dX0_laysCosts_63 : decode cX0_laysCosts 63 = .ok (.invokevirtual 346, 3) := dk_182 1 90 (dk_at dksX0_laysCosts_2 18 rfl rfl)
theorem dX0_laysCosts_66 : decode cX0_laysCosts 66 = .ok (.invokestatic 189, 3) := dk_184 0 189 (dk_at dksX0_laysCosts_2 21 rfl rfl)
theorem dX0_laysCosts_69 : decode cX0_laysCosts 69 = .ok (.iastore, 1) := dk_79 (dk_at dksX0_laysCosts_3 0 rfl rfl)
theorem dX0_laysCosts_70 : decode cX0_laysCosts 70 = .ok (.iinc 3 1, 3) := dk_132 3 1 (dk_at dksX0_laysCosts_3 1 rfl rfl)
theorem dX0_laysCosts_73 : decode cX0_laysCosts 73 = .ok (.goto (-34), 3) := dk_167 255 222 (dk_at dksX0_laysCosts_3 4 rfl rfl)
theorem dX0_laysCosts_76 : decode cX0_laysCosts 76 = .ok (.iinc 2 1, 3) := dk_132 2 1 (dk_at dksX0_laysCosts_3 7 rfl rfl)
theorem dX0_laysCosts_79 : decode cX0_laysCosts 79 = .ok (.goto (-59), 3) := dk_167 255 197 (dk_at dksX0_laysCosts_3 10 rfl rfl)
theorem dX0_laysCosts_82 : decode cX0_laysCosts 82 = .ok (.iinc 1 (-1), 3) := dk_132 1 255 (dk_at dksX0_laysCosts_3 13 rfl rfl)
theorem dX0_laysCosts_85 : decode cX0_laysCosts 85 = .ok (.goto (-82), 3) := dk_167 255 174 (dk_at dksX0_laysCosts_3 16 rfl rfl)
theorem dX0_laysCosts_88 : decode cX0_laysCosts 88 = .ok (.return_, 1) := dk_177 (dk_at dksX0_laysCosts_3 19 rfl rfl)
abbrev cX0_costBy : ByteArray := prog_1_method_74_code
def yX0_costBy : MethodName := ⟨RX0, "costBy", "(III)I"⟩
def dkwX0_costBy_1 : List UInt8 := [180, 0, 51, 28, 4, 96, 50, 29, 46, 184, 1, 81, 96, 172]
abbrev dktX0_costBy_1 : List UInt8 := dkwX0_costBy_1 ++ []
def dkwX0_costBy_0 : List UInt8 := [42, 180, 0, 21, 180, 0, 65, 16, 32, 28, 96, 46, 4, 96, 42, 180, 0, 51, 27, 50, 28, 46, 42]
abbrev dktX0_costBy_0 : List UInt8 := dkwX0_costBy_0 ++ dktX0_costBy_1
theorem dksX0_costBy_0 : cX0_costBy.data.toList.drop 0 = dktX0_costBy_0 := by decide +kernel
theorem dksX0_costBy_1 : cX0_costBy.data.toList.drop 23 = dktX0_costBy_1 := dk_seg dksX0_costBy_0 23 rfl rfl
theorem dX0_costBy_0 : decode cX0_costBy 0 = .ok (.aload_n 0, 1) := dk_42 (dk_at dksX0_costBy_0 0 rfl rfl)
theorem dX0_costBy_1 : decode cX0_costBy 1 = .ok (.getfield 21, 3) := dk_180 0 21 (dk_at dksX0_costBy_0 1 rfl rfl)
theorem dX0_costBy_4 : decode cX0_costBy 4 = .ok (.getfield 65, 3) := dk_180 0 65 (dk_at dksX0_costBy_0 4 rfl rfl)
theorem dX0_costBy_7 : decode cX0_costBy 7 = .ok (.bipush 32, 2) := dk_16 32 (dk_at dksX0_costBy_0 7 rfl rfl)
theorem dX0_costBy_9 : decode cX0_costBy 9 = .ok (.iload_n 2, 1) := dk_28 (dk_at dksX0_costBy_0 9 rfl rfl)
theorem dX0_costBy_10 : decode cX0_costBy 10 = .ok (.iadd, 1) := dk_96 (dk_at dksX0_costBy_0 10 rfl rfl)
theorem dX0_costBy_11 : decode cX0_costBy 11 = .ok (.iaload, 1) := dk_46 (dk_at dksX0_costBy_0 11 rfl rfl)
theorem dX0_costBy_12 : decode cX0_costBy 12 = .ok (.iconst 1, 1) := dk_4 (dk_at dksX0_costBy_0 12 rfl rfl)
theorem dX0_costBy_13 : decode cX0_costBy 13 = .ok (.iadd, 1) := dk_96 (dk_at dksX0_costBy_0 13 rfl rfl)
theorem dX0_costBy_14 : decode cX0_costBy 14 = .ok (.aload_n 0, 1) := dk_42 (dk_at dksX0_costBy_0 14 rfl rfl)
theorem dX0_costBy_15 : decode cX0_costBy 15 = .ok (.getfield 51, 3) := dk_180 0 51 (dk_at dksX0_costBy_0 15 rfl rfl)
theorem dX0_costBy_18 : decode cX0_costBy 18 = .ok (.iload_n 1, 1) := dk_27 (dk_at dksX0_costBy_0 18 rfl rfl)
theorem dX0_costBy_19 : decode cX0_costBy 19 = .ok (.aaload, 1) := dk_50 (dk_at dksX0_costBy_0 19 rfl rfl)
theorem dX0_costBy_20 : decode cX0_costBy 20 = .ok (.iload_n 2, 1) := dk_28 (dk_at dksX0_costBy_0 20 rfl rfl)
theorem dX0_costBy_21 : decode cX0_costBy 21 = .ok (.iaload, 1) := dk_46 (dk_at dksX0_costBy_0 21 rfl rfl)
theorem dX0_costBy_22 : decode cX0_costBy 22 = .ok (.aload_n 0, 1) := dk_42 (dk_at dksX0_costBy_0 22 rfl rfl)
theorem dX0_costBy_23 : decode cX0_costBy 23 = .ok (.getfield 51, 3) := dk_180 0 51 (dk_at dksX0_costBy_1 0 rfl rfl)
theorem dX0_costBy_26 : decode cX0_costBy 26 = .ok (.iload_n 2, 1) := dk_28 (dk_at dksX0_costBy_1 3 rfl rfl)
theorem dX0_costBy_27 : decode cX0_costBy 27 = .ok (.iconst 1, 1) := dk_4 (dk_at dksX0_costBy_1 4 rfl rfl)
theorem dX0_costBy_28 : decode cX0_costBy 28 = .ok (.iadd, 1) := dk_96 (dk_at dksX0_costBy_1 5 rfl rfl)
theorem dX0_costBy_29 : decode cX0_costBy 29 = .ok (.aaload, 1) := dk_50 (dk_at dksX0_costBy_1 6 rfl rfl)
theorem dX0_costBy_30 : decode cX0_costBy 30 = .ok (.iload_n 3, 1) := dk_29 (dk_at dksX0_costBy_1 7 rfl rfl)
theorem dX0_costBy_31 : decode cX0_costBy 31 = .ok (.iaload, 1) := dk_46 (dk_at dksX0_costBy_1 8 rfl rfl)
theorem dX0_costBy_32 : decode cX0_costBy 32 = .ok (.invokestatic 337, 3) := dk_184 1 81 (dk_at dksX0_costBy_1 9 rfl rfl)
theorem dX0_costBy_35 : decode cX0_costBy 35 = .ok (.iadd, 1) := dk_96 (dk_at dksX0_costBy_1 12 rfl rfl)
theorem dX0_costBy_36 : decode cX0_costBy 36 = .ok (.ireturn, 1) := dk_172 (dk_at dksX0_costBy_1 13 rfl rfl)
abbrev cX0_visits : ByteArray := prog_1_method_77_code
def yX0_visits : MethodName := ⟨RX0, "visits", "(II)I"⟩
def dkwX0_visits_2 : List UInt8 := [120, 128, 62, 132, 4, 1, 167, 255, 224, 29, 172]
abbrev dktX0_visits_2 : List UInt8 := dkwX0_visits_2 ++ []
def dkwX0_visits_1 : List UInt8 := [16, 30, 162, 0, 31, 29, 4, 28, 21, 4, 42, 180, 0, 21, 180, 0, 76, 27, 46, 104, 96, 16, 30, 112]
abbrev dktX0_visits_1 : List UInt8 := dkwX0_visits_1 ++ dktX0_visits_2
def dkwX0_visits_0 : List UInt8 := [42, 27, 182, 0, 159, 153, 0, 10, 28, 184, 0, 68, 154, 0, 5, 2, 172, 3, 62, 3, 54, 4, 21, 4]
abbrev dktX0_visits_0 : List UInt8 := dkwX0_visits_0 ++ dktX0_visits_1
theorem dksX0_visits_0 : cX0_visits.data.toList.drop 0 = dktX0_visits_0 := by decide +kernel
theorem dksX0_visits_1 : cX0_visits.data.toList.drop 24 = dktX0_visits_1 := dk_seg dksX0_visits_0 24 rfl rfl
theorem dksX0_visits_2 : cX0_visits.data.toList.drop 48 = dktX0_visits_2 := dk_seg dksX0_visits_1 24 rfl rfl
theorem dX0_visits_0 : decode cX0_visits 0 = .ok (.aload_n 0, 1) := dk_42 (dk_at dksX0_visits_0 0 rfl rfl)
theorem dX0_visits_1 : decode cX0_visits 1 = .ok (.iload_n 1, 1) := dk_27 (dk_at dksX0_visits_0 1 rfl rfl)
theorem dX0_visits_2 : decode cX0_visits 2 = .ok (.invokevirtual 159, 3) := dk_182 0 159 (dk_at dksX0_visits_0 2 rfl rfl)
theorem dX0_visits_5 : decode cX0_visits 5 = .ok (.ifCond .eq 10, 3) := dk_153 0 10 (dk_at dksX0_visits_0 5 rfl rfl)
theorem dX0_visits_8 : decode cX0_visits 8 = .ok (.iload_n 2, 1) := dk_28 (dk_at dksX0_visits_0 8 rfl rfl)
theorem dX0_visits_9 : decode cX0_visits 9 = .ok (.invokestatic 68, 3) := dk_184 0 68 (dk_at dksX0_visits_0 9 rfl rfl)
theorem dX0_visits_12 : decode cX0_visits 12 = .ok (.ifCond .ne 5, 3) := dk_154 0 5 (dk_at dksX0_visits_0 12 rfl rfl)
theorem dX0_visits_15 : decode cX0_visits 15 = .ok (.iconst (-1), 1) := dk_2 (dk_at dksX0_visits_0 15 rfl rfl)
theorem dX0_visits_16 : decode cX0_visits 16 = .ok (.ireturn, 1) := dk_172 (dk_at dksX0_visits_0 16 rfl rfl)
theorem dX0_visits_17 : decode cX0_visits 17 = .ok (.iconst 0, 1) := dk_3 (dk_at dksX0_visits_0 17 rfl rfl)
theorem dX0_visits_18 : decode cX0_visits 18 = .ok (.istore_n 3, 1) := dk_62 (dk_at dksX0_visits_0 18 rfl rfl)
theorem dX0_visits_19 : decode cX0_visits 19 = .ok (.iconst 0, 1) := dk_3 (dk_at dksX0_visits_0 19 rfl rfl)
theorem dX0_visits_20 : decode cX0_visits 20 = .ok (.istore 4, 2) := dk_54 4 (dk_at dksX0_visits_0 20 rfl rfl)
theorem dX0_visits_22 : decode cX0_visits 22 = .ok (.iload 4, 2) := dk_21 4 (dk_at dksX0_visits_0 22 rfl rfl)
theorem dX0_visits_24 : decode cX0_visits 24 = .ok (.bipush 30, 2) := dk_16 30 (dk_at dksX0_visits_1 0 rfl rfl)
theorem dX0_visits_26 : decode cX0_visits 26 = .ok (.if_icmp .ge 31, 3) := dk_162 0 31 (dk_at dksX0_visits_1 2 rfl rfl)
theorem dX0_visits_29 : decode cX0_visits 29 = .ok (.iload_n 3, 1) := dk_29 (dk_at dksX0_visits_1 5 rfl rfl)
theorem dX0_visits_30 : decode cX0_visits 30 = .ok (.iconst 1, 1) := dk_4 (dk_at dksX0_visits_1 6 rfl rfl)
theorem dX0_visits_31 : decode cX0_visits 31 = .ok (.iload_n 2, 1) := dk_28 (dk_at dksX0_visits_1 7 rfl rfl)
theorem dX0_visits_32 : decode cX0_visits 32 = .ok (.iload 4, 2) := dk_21 4 (dk_at dksX0_visits_1 8 rfl rfl)
theorem dX0_visits_34 : decode cX0_visits 34 = .ok (.aload_n 0, 1) := dk_42 (dk_at dksX0_visits_1 10 rfl rfl)
theorem dX0_visits_35 : decode cX0_visits 35 = .ok (.getfield 21, 3) := dk_180 0 21 (dk_at dksX0_visits_1 11 rfl rfl)
theorem dX0_visits_38 : decode cX0_visits 38 = .ok (.getfield 76, 3) := dk_180 0 76 (dk_at dksX0_visits_1 14 rfl rfl)
theorem dX0_visits_41 : decode cX0_visits 41 = .ok (.iload_n 1, 1) := dk_27 (dk_at dksX0_visits_1 17 rfl rfl)
theorem dX0_visits_42 : decode cX0_visits 42 = .ok (.iaload, 1) := dk_46 (dk_at dksX0_visits_1 18 rfl rfl)
theorem dX0_visits_43 : decode cX0_visits 43 = .ok (.imul, 1) := dk_104 (dk_at dksX0_visits_1 19 rfl rfl)
theorem dX0_visits_44 : decode cX0_visits 44 = .ok (.iadd, 1) := dk_96 (dk_at dksX0_visits_1 20 rfl rfl)
theorem dX0_visits_45 : decode cX0_visits 45 = .ok (.bipush 30, 2) := dk_16 30 (dk_at dksX0_visits_1 21 rfl rfl)
theorem dX0_visits_47 : decode cX0_visits 47 = .ok (.irem, 1) := dk_112 (dk_at dksX0_visits_1 23 rfl rfl)
theorem dX0_visits_48 : decode cX0_visits 48 = .ok (.ishl, 1) := dk_120 (dk_at dksX0_visits_2 0 rfl rfl)
theorem dX0_visits_49 : decode cX0_visits 49 = .ok (.ior, 1) := dk_128 (dk_at dksX0_visits_2 1 rfl rfl)
theorem dX0_visits_50 : decode cX0_visits 50 = .ok (.istore_n 3, 1) := dk_62 (dk_at dksX0_visits_2 2 rfl rfl)
theorem dX0_visits_51 : decode cX0_visits 51 = .ok (.iinc 4 1, 3) := dk_132 4 1 (dk_at dksX0_visits_2 3 rfl rfl)
theorem dX0_visits_54 : decode cX0_visits 54 = .ok (.goto (-32), 3) := dk_167 255 224 (dk_at dksX0_visits_2 6 rfl rfl)
theorem dX0_visits_57 : decode cX0_visits 57 = .ok (.iload_n 3, 1) := dk_29 (dk_at dksX0_visits_2 9 rfl rfl)
theorem dX0_visits_58 : decode cX0_visits 58 = .ok (.ireturn, 1) := dk_172 (dk_at dksX0_visits_2 10 rfl rfl)
abbrev cX0_meet : ByteArray := prog_1_method_78_code
def yX0_meet : MethodName := ⟨RX0, "meet", "(IIII)I"⟩
def dkwX0_meet_3 : List UInt8 := [104, 100, 16, 30, 112, 154, 0, 6, 21, 5, 172, 132, 5, 1, 167, 255, 207, 2, 172]
abbrev dktX0_meet_3 : List UInt8 := dkwX0_meet_3 ++ []
def dkwX0_meet_2 : List UInt8 := [180, 0, 21, 180, 0, 76, 27, 46, 104, 96, 21, 4, 100, 21, 5, 42, 180, 0, 21, 180, 0, 76, 29, 46]
abbrev dktX0_meet_2 : List UInt8 := dkwX0_meet_2 ++ dktX0_meet_3
def dkwX0_meet_1 : List UInt8 := [21, 4, 184, 0, 68, 154, 0, 5, 2, 172, 3, 54, 5, 21, 5, 16, 30, 162, 0, 48, 28, 21, 5, 42]
abbrev dktX0_meet_1 : List UInt8 := dkwX0_meet_1 ++ dktX0_meet_2
def dkwX0_meet_0 : List UInt8 := [42, 27, 182, 0, 159, 153, 0, 26, 28, 184, 0, 68, 153, 0, 19, 42, 29, 182, 0, 159, 153, 0, 11]
abbrev dktX0_meet_0 : List UInt8 := dkwX0_meet_0 ++ dktX0_meet_1
theorem dksX0_meet_0 : cX0_meet.data.toList.drop 0 = dktX0_meet_0 := by decide +kernel
theorem dksX0_meet_1 : cX0_meet.data.toList.drop 23 = dktX0_meet_1 := dk_seg dksX0_meet_0 23 rfl rfl
theorem dksX0_meet_2 : cX0_meet.data.toList.drop 47 = dktX0_meet_2 := dk_seg dksX0_meet_1 24 rfl rfl
theorem dksX0_meet_3 : cX0_meet.data.toList.drop 71 = dktX0_meet_3 := dk_seg dksX0_meet_2 24 rfl rfl
theorem dX0_meet_0 : decode cX0_meet 0 = .ok (.aload_n 0, 1) := dk_42 (dk_at dksX0_meet_0 0 rfl rfl)
theorem dX0_meet_1 : decode cX0_meet 1 = .ok (.iload_n 1, 1) := dk_27 (dk_at dksX0_meet_0 1 rfl rfl)
theorem dX0_meet_2 : decode cX0_meet 2 = .ok (.invokevirtual 159, 3) := dk_182 0 159 (dk_at dksX0_meet_0 2 rfl rfl)
theorem dX0_meet_5 : decode cX0_meet 5 = .ok (.ifCond .eq 26, 3) := dk_153 0 26 (dk_at dksX0_meet_0 5 rfl rfl)
theorem dX0_meet_8 : decode cX0_meet 8 = .ok (.iload_n 2, 1) := dk_28 (dk_at dksX0_meet_0 8 rfl rfl)
theorem dX0_meet_9 : decode cX0_meet 9 = .ok (.invokestatic 68, 3) := dk_184 0 68 (dk_at dksX0_meet_0 9 rfl rfl)
theorem dX0_meet_12 : decode cX0_meet 12 = .ok (.ifCond .eq 19, 3) := dk_153 0 19 (dk_at dksX0_meet_0 12 rfl rfl)
theorem dX0_meet_15 : decode cX0_meet 15 = .ok (.aload_n 0, 1) := dk_42 (dk_at dksX0_meet_0 15 rfl rfl)
theorem dX0_meet_16 : decode cX0_meet 16 = .ok (.iload_n 3, 1) := dk_29 (dk_at dksX0_meet_0 16 rfl rfl)
theorem dX0_meet_17 : decode cX0_meet 17 = .ok (.invokevirtual 159, 3) := dk_182 0 159 (dk_at dksX0_meet_0 17 rfl rfl)
theorem dX0_meet_20 : decode cX0_meet 20 = .ok (.ifCond .eq 11, 3) := dk_153 0 11 (dk_at dksX0_meet_0 20 rfl rfl)
theorem dX0_meet_23 : decode cX0_meet 23 = .ok (.iload 4, 2) := dk_21 4 (dk_at dksX0_meet_1 0 rfl rfl)
theorem dX0_meet_25 : decode cX0_meet 25 = .ok (.invokestatic 68, 3) := dk_184 0 68 (dk_at dksX0_meet_1 2 rfl rfl)
theorem dX0_meet_28 : decode cX0_meet 28 = .ok (.ifCond .ne 5, 3) := dk_154 0 5 (dk_at dksX0_meet_1 5 rfl rfl)
theorem dX0_meet_31 : decode cX0_meet 31 = .ok (.iconst (-1), 1) := dk_2 (dk_at dksX0_meet_1 8 rfl rfl)
theorem dX0_meet_32 : decode cX0_meet 32 = .ok (.ireturn, 1) := dk_172 (dk_at dksX0_meet_1 9 rfl rfl)
theorem dX0_meet_33 : decode cX0_meet 33 = .ok (.iconst 0, 1) := dk_3 (dk_at dksX0_meet_1 10 rfl rfl)
theorem dX0_meet_34 : decode cX0_meet 34 = .ok (.istore 5, 2) := dk_54 5 (dk_at dksX0_meet_1 11 rfl rfl)
theorem dX0_meet_36 : decode cX0_meet 36 = .ok (.iload 5, 2) := dk_21 5 (dk_at dksX0_meet_1 13 rfl rfl)
theorem dX0_meet_38 : decode cX0_meet 38 = .ok (.bipush 30, 2) := dk_16 30 (dk_at dksX0_meet_1 15 rfl rfl)
theorem dX0_meet_40 : decode cX0_meet 40 = .ok (.if_icmp .ge 48, 3) := dk_162 0 48 (dk_at dksX0_meet_1 17 rfl rfl)
theorem dX0_meet_43 : decode cX0_meet 43 = .ok (.iload_n 2, 1) := dk_28 (dk_at dksX0_meet_1 20 rfl rfl)
theorem dX0_meet_44 : decode cX0_meet 44 = .ok (.iload 5, 2) := dk_21 5 (dk_at dksX0_meet_1 21 rfl rfl)
theorem dX0_meet_46 : decode cX0_meet 46 = .ok (.aload_n 0, 1) := dk_42 (dk_at dksX0_meet_1 23 rfl rfl)
theorem dX0_meet_47 : decode cX0_meet 47 = .ok (.getfield 21, 3) := dk_180 0 21 (dk_at dksX0_meet_2 0 rfl rfl)
theorem dX0_meet_50 : decode cX0_meet 50 = .ok (.getfield 76, 3) := dk_180 0 76 (dk_at dksX0_meet_2 3 rfl rfl)
theorem dX0_meet_53 : decode cX0_meet 53 = .ok (.iload_n 1, 1) := dk_27 (dk_at dksX0_meet_2 6 rfl rfl)
theorem dX0_meet_54 : decode cX0_meet 54 = .ok (.iaload, 1) := dk_46 (dk_at dksX0_meet_2 7 rfl rfl)
theorem dX0_meet_55 : decode cX0_meet 55 = .ok (.imul, 1) := dk_104 (dk_at dksX0_meet_2 8 rfl rfl)
theorem dX0_meet_56 : decode cX0_meet 56 = .ok (.iadd, 1) := dk_96 (dk_at dksX0_meet_2 9 rfl rfl)
theorem dX0_meet_57 : decode cX0_meet 57 = .ok (.iload 4, 2) := dk_21 4 (dk_at dksX0_meet_2 10 rfl rfl)
theorem dX0_meet_59 : decode cX0_meet 59 = .ok (.isub, 1) := dk_100 (dk_at dksX0_meet_2 12 rfl rfl)
theorem dX0_meet_60 : decode cX0_meet 60 = .ok (.iload 5, 2) := dk_21 5 (dk_at dksX0_meet_2 13 rfl rfl)
theorem dX0_meet_62 : decode cX0_meet 62 = .ok (.aload_n 0, 1) := dk_42 (dk_at dksX0_meet_2 15 rfl rfl)
theorem dX0_meet_63 : decode cX0_meet 63 = .ok (.getfield 21, 3) := dk_180 0 21 (dk_at dksX0_meet_2 16 rfl rfl)
theorem dX0_meet_66 : decode cX0_meet 66 = .ok (.getfield 76, 3) := dk_180 0 76 (dk_at dksX0_meet_2 19 rfl rfl)
theorem dX0_meet_69 : decode cX0_meet 69 = .ok (.iload_n 3, 1) := dk_29 (dk_at dksX0_meet_2 22 rfl rfl)
theorem dX0_meet_70 : decode cX0_meet 70 = .ok (.iaload, 1) := dk_46 (dk_at dksX0_meet_2 23 rfl rfl)
theorem dX0_meet_71 : decode cX0_meet 71 = .ok (.imul, 1) := dk_104 (dk_at dksX0_meet_3 0 rfl rfl)
theorem dX0_meet_72 : decode cX0_meet 72 = .ok (.isub, 1) := dk_100 (dk_at dksX0_meet_3 1 rfl rfl)
theorem dX0_meet_73 : decode cX0_meet 73 = .ok (.bipush 30, 2) := dk_16 30 (dk_at dksX0_meet_3 2 rfl rfl)
theorem dX0_meet_75 : decode cX0_meet 75 = .ok (.irem, 1) := dk_112 (dk_at dksX0_meet_3 4 rfl rfl)
theorem dX0_meet_76 : decode cX0_meet 76 = .ok (.ifCond .ne 6, 3) := dk_154 0 6 (dk_at dksX0_meet_3 5 rfl rfl)
theorem dX0_meet_79 : decode cX0_meet 79 = .ok (.iload 5, 2) := dk_21 5 (dk_at dksX0_meet_3 8 rfl rfl)
theorem dX0_meet_81 : decode cX0_meet 81 = .ok (.ireturn, 1) := dk_172 (dk_at dksX0_meet_3 10 rfl rfl)
theorem dX0_meet_82 : decode cX0_meet 82 = .ok (.iinc 5 1, 3) := dk_132 5 1 (dk_at dksX0_meet_3 11 rfl rfl)
theorem dX0_meet_85 : decode cX0_meet 85 = .ok (.goto (-49), 3) := dk_167 255 207 (dk_at dksX0_meet_3 14 rfl rfl)
theorem dX0_meet_88 : decode cX0_meet 88 = .ok (.iconst (-1), 1) := dk_2 (dk_at dksX0_meet_3 17 rfl rfl)
theorem dX0_meet_89 : decode cX0_meet 89 = .ok (.ireturn, 1) := dk_172 (dk_at dksX0_meet_3 18 rfl rfl)
abbrev cX0_period : ByteArray := prog_1_method_80_code
def yX0_period : MethodName := ⟨RX0, "period", "()I"⟩
def dkwX0_period_0 : List UInt8 := [4, 60, 42, 27, 182, 1, 96, 154, 0, 9, 132, 1, 1, 167, 255, 245, 27, 172]
abbrev dktX0_period_0 : List UInt8 := dkwX0_period_0 ++ []
theorem dksX0_period_0 : cX0_period.data.toList.drop 0 = dktX0_period_0 := by decide +kernel
theorem dX0_period_0 : decode cX0_period 0 = .ok (.iconst 1, 1) := dk_4 (dk_at dksX0_period_0 0 rfl rfl)
theorem dX0_period_1 : decode cX0_period 1 = .ok (.istore_n 1, 1) := dk_60 (dk_at dksX0_period_0 1 rfl rfl)
theorem dX0_period_2 : decode cX0_period 2 = .ok (.aload_n 0, 1) := dk_42 (dk_at dksX0_period_0 2 rfl rfl)
theorem dX0_period_3 : decode cX0_period 3 = .ok (.iload_n 1, 1) := dk_27 (dk_at dksX0_period_0 3 rfl rfl)
theorem dX0_period_4 : decode cX0_period 4 = .ok (.invokevirtual 352, 3) := dk_182 1 96 (dk_at dksX0_period_0 4 rfl rfl)
theorem dX0_period_7 : decode cX0_period 7 = .ok (.ifCond .ne 9, 3) := dk_154 0 9 (dk_at dksX0_period_0 7 rfl rfl)
theorem dX0_period_10 : decode cX0_period 10 = .ok (.iinc 1 1, 3) := dk_132 1 1 (dk_at dksX0_period_0 10 rfl rfl)
theorem dX0_period_13 : decode cX0_period 13 = .ok (.goto (-11), 3) := dk_167 255 245 (dk_at dksX0_period_0 13 rfl rfl)
theorem dX0_period_16 : decode cX0_period 16 = .ok (.iload_n 1, 1) := dk_27 (dk_at dksX0_period_0 16 rfl rfl)
theorem dX0_period_17 : decode cX0_period 17 = .ok (.ireturn, 1) := dk_172 (dk_at dksX0_period_0 17 rfl rfl)
abbrev cX0_isTurn : ByteArray := prog_1_method_79_code
def yX0_isTurn : MethodName := ⟨RX0, "isTurn", "(I)Z"⟩
def dkwX0_isTurn_1 : List UInt8 := [159, 0, 5, 3, 172, 132, 2, 1, 167, 255, 227, 4, 172]
abbrev dktX0_isTurn_1 : List UInt8 := dkwX0_isTurn_1 ++ []
def dkwX0_isTurn_0 : List UInt8 := [3, 61, 28, 16, 30, 162, 0, 29, 42, 28, 182, 0, 172, 42, 28, 27, 96, 16, 30, 112, 182, 0, 172]
abbrev dktX0_isTurn_0 : List UInt8 := dkwX0_isTurn_0 ++ dktX0_isTurn_1
theorem dksX0_isTurn_0 : cX0_isTurn.data.toList.drop 0 = dktX0_isTurn_0 := by decide +kernel
theorem dksX0_isTurn_1 : cX0_isTurn.data.toList.drop 23 = dktX0_isTurn_1 := dk_seg dksX0_isTurn_0 23 rfl rfl
theorem dX0_isTurn_0 : decode cX0_isTurn 0 = .ok (.iconst 0, 1) := dk_3 (dk_at dksX0_isTurn_0 0 rfl rfl)
theorem dX0_isTurn_1 : decode cX0_isTurn 1 = .ok (.istore_n 2, 1) := dk_61 (dk_at dksX0_isTurn_0 1 rfl rfl)
theorem dX0_isTurn_2 : decode cX0_isTurn 2 = .ok (.iload_n 2, 1) := dk_28 (dk_at dksX0_isTurn_0 2 rfl rfl)
theorem dX0_isTurn_3 : decode cX0_isTurn 3 = .ok (.bipush 30, 2) := dk_16 30 (dk_at dksX0_isTurn_0 3 rfl rfl)
theorem dX0_isTurn_5 : decode cX0_isTurn 5 = .ok (.if_icmp .ge 29, 3) := dk_162 0 29 (dk_at dksX0_isTurn_0 5 rfl rfl)
theorem dX0_isTurn_8 : decode cX0_isTurn 8 = .ok (.aload_n 0, 1) := dk_42 (dk_at dksX0_isTurn_0 8 rfl rfl)
theorem dX0_isTurn_9 : decode cX0_isTurn 9 = .ok (.iload_n 2, 1) := dk_28 (dk_at dksX0_isTurn_0 9 rfl rfl)
theorem dX0_isTurn_10 : decode cX0_isTurn 10 = .ok (.invokevirtual 172, 3) := dk_182 0 172 (dk_at dksX0_isTurn_0 10 rfl rfl)
theorem dX0_isTurn_13 : decode cX0_isTurn 13 = .ok (.aload_n 0, 1) := dk_42 (dk_at dksX0_isTurn_0 13 rfl rfl)
theorem dX0_isTurn_14 : decode cX0_isTurn 14 = .ok (.iload_n 2, 1) := dk_28 (dk_at dksX0_isTurn_0 14 rfl rfl)
theorem dX0_isTurn_15 : decode cX0_isTurn 15 = .ok (.iload_n 1, 1) := dk_27 (dk_at dksX0_isTurn_0 15 rfl rfl)
theorem dX0_isTurn_16 : decode cX0_isTurn 16 = .ok (.iadd, 1) := dk_96 (dk_at dksX0_isTurn_0 16 rfl rfl)
theorem dX0_isTurn_17 : decode cX0_isTurn 17 = .ok (.bipush 30, 2) := dk_16 30 (dk_at dksX0_isTurn_0 17 rfl rfl)
theorem dX0_isTurn_19 : decode cX0_isTurn 19 = .ok (.irem, 1) := dk_112 (dk_at dksX0_isTurn_0 19 rfl rfl)
theorem dX0_isTurn_20 : decode cX0_isTurn 20 = .ok (.invokevirtual 172, 3) := dk_182 0 172 (dk_at dksX0_isTurn_0 20 rfl rfl)
theorem dX0_isTurn_23 : decode cX0_isTurn 23 = .ok (.if_icmp .eq 5, 3) := dk_159 0 5 (dk_at dksX0_isTurn_1 0 rfl rfl)
theorem dX0_isTurn_26 : decode cX0_isTurn 26 = .ok (.iconst 0, 1) := dk_3 (dk_at dksX0_isTurn_1 3 rfl rfl)
theorem dX0_isTurn_27 : decode cX0_isTurn 27 = .ok (.ireturn, 1) := dk_172 (dk_at dksX0_isTurn_1 4 rfl rfl)
theorem dX0_isTurn_28 : decode cX0_isTurn 28 = .ok (.iinc 2 1, 3) := dk_132 2 1 (dk_at dksX0_isTurn_1 5 rfl rfl)
theorem dX0_isTurn_31 : decode cX0_isTurn 31 = .ok (.goto (-29), 3) := dk_167 255 227 (dk_at dksX0_isTurn_1 8 rfl rfl)
theorem dX0_isTurn_34 : decode cX0_isTurn 34 = .ok (.iconst 1, 1) := dk_4 (dk_at dksX0_isTurn_1 11 rfl rfl)
theorem dX0_isTurn_35 : decode cX0_isTurn 35 = .ok (.ireturn, 1) := dk_172 (dk_at dksX0_isTurn_1 12 rfl rfl)
abbrev cX0_least : ByteArray := prog_1_method_82_code
def yX0_least : MethodName := ⟨RX0, "least", "()I"⟩
def dkwX0_least_1 : List UInt8 := [167, 255, 236, 27, 172]
abbrev dktX0_least_1 : List UInt8 := dkwX0_least_1 ++ []
def dkwX0_least_0 : List UInt8 := [3, 60, 4, 61, 28, 16, 30, 162, 0, 20, 42, 28, 27, 182, 1, 99, 156, 0, 5, 28, 60, 132, 2, 1]
abbrev dktX0_least_0 : List UInt8 := dkwX0_least_0 ++ dktX0_least_1
theorem dksX0_least_0 : cX0_least.data.toList.drop 0 = dktX0_least_0 := by decide +kernel
theorem dksX0_least_1 : cX0_least.data.toList.drop 24 = dktX0_least_1 := dk_seg dksX0_least_0 24 rfl rfl
theorem dX0_least_0 : decode cX0_least 0 = .ok (.iconst 0, 1) := dk_3 (dk_at dksX0_least_0 0 rfl rfl)
theorem dX0_least_1 : decode cX0_least 1 = .ok (.istore_n 1, 1) := dk_60 (dk_at dksX0_least_0 1 rfl rfl)
theorem dX0_least_2 : decode cX0_least 2 = .ok (.iconst 1, 1) := dk_4 (dk_at dksX0_least_0 2 rfl rfl)
theorem dX0_least_3 : decode cX0_least 3 = .ok (.istore_n 2, 1) := dk_61 (dk_at dksX0_least_0 3 rfl rfl)
theorem dX0_least_4 : decode cX0_least 4 = .ok (.iload_n 2, 1) := dk_28 (dk_at dksX0_least_0 4 rfl rfl)
theorem dX0_least_5 : decode cX0_least 5 = .ok (.bipush 30, 2) := dk_16 30 (dk_at dksX0_least_0 5 rfl rfl)
theorem dX0_least_7 : decode cX0_least 7 = .ok (.if_icmp .ge 20, 3) := dk_162 0 20 (dk_at dksX0_least_0 7 rfl rfl)
theorem dX0_least_10 : decode cX0_least 10 = .ok (.aload_n 0, 1) := dk_42 (dk_at dksX0_least_0 10 rfl rfl)
theorem dX0_least_11 : decode cX0_least 11 = .ok (.iload_n 2, 1) := dk_28 (dk_at dksX0_least_0 11 rfl rfl)
theorem dX0_least_12 : decode cX0_least 12 = .ok (.iload_n 1, 1) := dk_27 (dk_at dksX0_least_0 12 rfl rfl)
theorem dX0_least_13 : decode cX0_least 13 = .ok (.invokevirtual 355, 3) := dk_182 1 99 (dk_at dksX0_least_0 13 rfl rfl)
theorem dX0_least_16 : decode cX0_least 16 = .ok (.ifCond .ge 5, 3) := dk_156 0 5 (dk_at dksX0_least_0 16 rfl rfl)
theorem dX0_least_19 : decode cX0_least 19 = .ok (.iload_n 2, 1) := dk_28 (dk_at dksX0_least_0 19 rfl rfl)
theorem dX0_least_20 : decode cX0_least 20 = .ok (.istore_n 1, 1) := dk_60 (dk_at dksX0_least_0 20 rfl rfl)
theorem dX0_least_21 : decode cX0_least 21 = .ok (.iinc 2 1, 3) := dk_132 2 1 (dk_at dksX0_least_0 21 rfl rfl)
theorem dX0_least_24 : decode cX0_least 24 = .ok (.goto (-20), 3) := dk_167 255 236 (dk_at dksX0_least_1 0 rfl rfl)
theorem dX0_least_27 : decode cX0_least 27 = .ok (.iload_n 1, 1) := dk_27 (dk_at dksX0_least_1 3 rfl rfl)
theorem dX0_least_28 : decode cX0_least 28 = .ok (.ireturn, 1) := dk_172 (dk_at dksX0_least_1 4 rfl rfl)
abbrev cX0_moreFrom : ByteArray := prog_1_method_81_code
def yX0_moreFrom : MethodName := ⟨RX0, "moreFrom", "(II)I"⟩
def dkwX0_moreFrom_1 : List UInt8 := [112, 182, 0, 172, 100, 54, 4, 21, 4, 153, 0, 6, 21, 4, 172, 132, 3, 1, 167, 255, 216, 3, 172]
abbrev dktX0_moreFrom_1 : List UInt8 := dkwX0_moreFrom_1 ++ []
def dkwX0_moreFrom_0 : List UInt8 := [3, 62, 29, 16, 30, 162, 0, 40, 42, 27, 29, 96, 16, 30, 112, 182, 0, 172, 42, 28, 29, 96, 16, 30]
abbrev dktX0_moreFrom_0 : List UInt8 := dkwX0_moreFrom_0 ++ dktX0_moreFrom_1
theorem dksX0_moreFrom_0 : cX0_moreFrom.data.toList.drop 0 = dktX0_moreFrom_0 := by decide +kernel
theorem dksX0_moreFrom_1 : cX0_moreFrom.data.toList.drop 24 = dktX0_moreFrom_1 := dk_seg dksX0_moreFrom_0 24 rfl rfl
theorem dX0_moreFrom_0 : decode cX0_moreFrom 0 = .ok (.iconst 0, 1) := dk_3 (dk_at dksX0_moreFrom_0 0 rfl rfl)
theorem dX0_moreFrom_1 : decode cX0_moreFrom 1 = .ok (.istore_n 3, 1) := dk_62 (dk_at dksX0_moreFrom_0 1 rfl rfl)
theorem dX0_moreFrom_2 : decode cX0_moreFrom 2 = .ok (.iload_n 3, 1) := dk_29 (dk_at dksX0_moreFrom_0 2 rfl rfl)
theorem dX0_moreFrom_3 : decode cX0_moreFrom 3 = .ok (.bipush 30, 2) := dk_16 30 (dk_at dksX0_moreFrom_0 3 rfl rfl)
theorem dX0_moreFrom_5 : decode cX0_moreFrom 5 = .ok (.if_icmp .ge 40, 3) := dk_162 0 40 (dk_at dksX0_moreFrom_0 5 rfl rfl)
theorem dX0_moreFrom_8 : decode cX0_moreFrom 8 = .ok (.aload_n 0, 1) := dk_42 (dk_at dksX0_moreFrom_0 8 rfl rfl)
theorem dX0_moreFrom_9 : decode cX0_moreFrom 9 = .ok (.iload_n 1, 1) := dk_27 (dk_at dksX0_moreFrom_0 9 rfl rfl)
theorem dX0_moreFrom_10 : decode cX0_moreFrom 10 = .ok (.iload_n 3, 1) := dk_29 (dk_at dksX0_moreFrom_0 10 rfl rfl)
theorem dX0_moreFrom_11 : decode cX0_moreFrom 11 = .ok (.iadd, 1) := dk_96 (dk_at dksX0_moreFrom_0 11 rfl rfl)
theorem dX0_moreFrom_12 : decode cX0_moreFrom 12 = .ok (.bipush 30, 2) := dk_16 30 (dk_at dksX0_moreFrom_0 12 rfl rfl)
theorem dX0_moreFrom_14 : decode cX0_moreFrom 14 = .ok (.irem, 1) := dk_112 (dk_at dksX0_moreFrom_0 14 rfl rfl)
theorem dX0_moreFrom_15 : decode cX0_moreFrom 15 = .ok (.invokevirtual 172, 3) := dk_182 0 172 (dk_at dksX0_moreFrom_0 15 rfl rfl)
theorem dX0_moreFrom_18 : decode cX0_moreFrom 18 = .ok (.aload_n 0, 1) := dk_42 (dk_at dksX0_moreFrom_0 18 rfl rfl)
theorem dX0_moreFrom_19 : decode cX0_moreFrom 19 = .ok (.iload_n 2, 1) := dk_28 (dk_at dksX0_moreFrom_0 19 rfl rfl)
theorem dX0_moreFrom_20 : decode cX0_moreFrom 20 = .ok (.iload_n 3, 1) := dk_29 (dk_at dksX0_moreFrom_0 20 rfl rfl)
theorem dX0_moreFrom_21 : decode cX0_moreFrom 21 = .ok (.iadd, 1) := dk_96 (dk_at dksX0_moreFrom_0 21 rfl rfl)
theorem dX0_moreFrom_22 : decode cX0_moreFrom 22 = .ok (.bipush 30, 2) := dk_16 30 (dk_at dksX0_moreFrom_0 22 rfl rfl)
theorem dX0_moreFrom_24 : decode cX0_moreFrom 24 = .ok (.irem, 1) := dk_112 (dk_at dksX0_moreFrom_1 0 rfl rfl)
theorem dX0_moreFrom_25 : decode cX0_moreFrom 25 = .ok (.invokevirtual 172, 3) := dk_182 0 172 (dk_at dksX0_moreFrom_1 1 rfl rfl)
theorem dX0_moreFrom_28 : decode cX0_moreFrom 28 = .ok (.isub, 1) := dk_100 (dk_at dksX0_moreFrom_1 4 rfl rfl)
theorem dX0_moreFrom_29 : decode cX0_moreFrom 29 = .ok (.istore 4, 2) := dk_54 4 (dk_at dksX0_moreFrom_1 5 rfl rfl)
theorem dX0_moreFrom_31 : decode cX0_moreFrom 31 = .ok (.iload 4, 2) := dk_21 4 (dk_at dksX0_moreFrom_1 7 rfl rfl)
theorem dX0_moreFrom_33 : decode cX0_moreFrom 33 = .ok (.ifCond .eq 6, 3) := dk_153 0 6 (dk_at dksX0_moreFrom_1 9 rfl rfl)
theorem dX0_moreFrom_36 : decode cX0_moreFrom 36 = .ok (.iload 4, 2) := dk_21 4 (dk_at dksX0_moreFrom_1 12 rfl rfl)
theorem dX0_moreFrom_38 : decode cX0_moreFrom 38 = .ok (.ireturn, 1) := dk_172 (dk_at dksX0_moreFrom_1 14 rfl rfl)
theorem dX0_moreFrom_39 : decode cX0_moreFrom 39 = .ok (.iinc 3 1, 3) := dk_132 3 1 (dk_at dksX0_moreFrom_1 15 rfl rfl)
theorem dX0_moreFrom_42 : decode cX0_moreFrom 42 = .ok (.goto (-40), 3) := dk_167 255 216 (dk_at dksX0_moreFrom_1 18 rfl rfl)
theorem dX0_moreFrom_45 : decode cX0_moreFrom 45 = .ok (.iconst 0, 1) := dk_3 (dk_at dksX0_moreFrom_1 21 rfl rfl)
theorem dX0_moreFrom_46 : decode cX0_moreFrom 46 = .ok (.ireturn, 1) := dk_172 (dk_at dksX0_moreFrom_1 22 rfl rfl)
abbrev cX0_mirrors : ByteArray := prog_1_method_84_code
def yX0_mirrors : MethodName := ⟨RX0, "mirrors", "()I"⟩
def dkwX0_mirrors_1 : List UInt8 := [96, 60, 132, 2, 1, 167, 255, 231, 27, 172]
abbrev dktX0_mirrors_1 : List UInt8 := dkwX0_mirrors_1 ++ []
def dkwX0_mirrors_0 : List UInt8 := [3, 60, 3, 61, 28, 16, 30, 162, 0, 25, 27, 42, 28, 182, 1, 102, 153, 0, 7, 4, 167, 0, 4, 3]
abbrev dktX0_mirrors_0 : List UInt8 := dkwX0_mirrors_0 ++ dktX0_mirrors_1
theorem dksX0_mirrors_0 : cX0_mirrors.data.toList.drop 0 = dktX0_mirrors_0 := by decide +kernel
theorem dksX0_mirrors_1 : cX0_mirrors.data.toList.drop 24 = dktX0_mirrors_1 := dk_seg dksX0_mirrors_0 24 rfl rfl
theorem dX0_mirrors_0 : decode cX0_mirrors 0 = .ok (.iconst 0, 1) := dk_3 (dk_at dksX0_mirrors_0 0 rfl rfl)
theorem dX0_mirrors_1 : decode cX0_mirrors 1 = .ok (.istore_n 1, 1) := dk_60 (dk_at dksX0_mirrors_0 1 rfl rfl)
theorem dX0_mirrors_2 : decode cX0_mirrors 2 = .ok (.iconst 0, 1) := dk_3 (dk_at dksX0_mirrors_0 2 rfl rfl)
theorem dX0_mirrors_3 : decode cX0_mirrors 3 = .ok (.istore_n 2, 1) := dk_61 (dk_at dksX0_mirrors_0 3 rfl rfl)
theorem dX0_mirrors_4 : decode cX0_mirrors 4 = .ok (.iload_n 2, 1) := dk_28 (dk_at dksX0_mirrors_0 4 rfl rfl)
theorem dX0_mirrors_5 : decode cX0_mirrors 5 = .ok (.bipush 30, 2) := dk_16 30 (dk_at dksX0_mirrors_0 5 rfl rfl)
theorem dX0_mirrors_7 : decode cX0_mirrors 7 = .ok (.if_icmp .ge 25, 3) := dk_162 0 25 (dk_at dksX0_mirrors_0 7 rfl rfl)
theorem dX0_mirrors_10 : decode cX0_mirrors 10 = .ok (.iload_n 1, 1) := dk_27 (dk_at dksX0_mirrors_0 10 rfl rfl)
theorem dX0_mirrors_11 : decode cX0_mirrors 11 = .ok (.aload_n 0, 1) := dk_42 (dk_at dksX0_mirrors_0 11 rfl rfl)
theorem dX0_mirrors_12 : decode cX0_mirrors 12 = .ok (.iload_n 2, 1) := dk_28 (dk_at dksX0_mirrors_0 12 rfl rfl)
theorem dX0_mirrors_13 : decode cX0_mirrors 13 = .ok (.invokevirtual 358, 3) := dk_182 1 102 (dk_at dksX0_mirrors_0 13 rfl rfl)
theorem dX0_mirrors_16 : decode cX0_mirrors 16 = .ok (.ifCond .eq 7, 3) := dk_153 0 7 (dk_at dksX0_mirrors_0 16 rfl rfl)
theorem dX0_mirrors_19 : decode cX0_mirrors 19 = .ok (.iconst 1, 1) := dk_4 (dk_at dksX0_mirrors_0 19 rfl rfl)
theorem dX0_mirrors_20 : decode cX0_mirrors 20 = .ok (.goto 4, 3) := dk_167 0 4 (dk_at dksX0_mirrors_0 20 rfl rfl)
theorem dX0_mirrors_23 : decode cX0_mirrors 23 = .ok (.iconst 0, 1) := dk_3 (dk_at dksX0_mirrors_0 23 rfl rfl)
theorem dX0_mirrors_24 : decode cX0_mirrors 24 = .ok (.iadd, 1) := dk_96 (dk_at dksX0_mirrors_1 0 rfl rfl)
theorem dX0_mirrors_25 : decode cX0_mirrors 25 = .ok (.istore_n 1, 1) := dk_60 (dk_at dksX0_mirrors_1 1 rfl rfl)
theorem dX0_mirrors_26 : decode cX0_mirrors 26 = .ok (.iinc 2 1, 3) := dk_132 2 1 (dk_at dksX0_mirrors_1 2 rfl rfl)
theorem dX0_mirrors_29 : decode cX0_mirrors 29 = .ok (.goto (-25), 3) := dk_167 255 231 (dk_at dksX0_mirrors_1 5 rfl rfl)
theorem dX0_mirrors_32 : decode cX0_mirrors 32 = .ok (.iload_n 1, 1) := dk_27 (dk_at dksX0_mirrors_1 8 rfl rfl)
theorem dX0_mirrors_33 : decode cX0_mirrors 33 = .ok (.ireturn, 1) := dk_172 (dk_at dksX0_mirrors_1 9 rfl rfl)
abbrev cX0_isMirror : ByteArray := prog_1_method_83_code
def yX0_isMirror : MethodName := ⟨RX0, "isMirror", "(I)Z"⟩
def dkwX0_isMirror_1 : List UInt8 := [182, 0, 172, 159, 0, 5, 3, 172, 132, 2, 1, 167, 255, 224, 4, 172]
abbrev dktX0_isMirror_1 : List UInt8 := dkwX0_isMirror_1 ++ []
def dkwX0_isMirror_0 : List UInt8 := [3, 61, 28, 16, 30, 162, 0, 32, 42, 28, 182, 0, 172, 42, 27, 28, 100, 16, 30, 96, 16, 30, 112]
abbrev dktX0_isMirror_0 : List UInt8 := dkwX0_isMirror_0 ++ dktX0_isMirror_1
theorem dksX0_isMirror_0 : cX0_isMirror.data.toList.drop 0 = dktX0_isMirror_0 := by decide +kernel
theorem dksX0_isMirror_1 : cX0_isMirror.data.toList.drop 23 = dktX0_isMirror_1 := dk_seg dksX0_isMirror_0 23 rfl rfl
theorem dX0_isMirror_0 : decode cX0_isMirror 0 = .ok (.iconst 0, 1) := dk_3 (dk_at dksX0_isMirror_0 0 rfl rfl)
theorem dX0_isMirror_1 : decode cX0_isMirror 1 = .ok (.istore_n 2, 1) := dk_61 (dk_at dksX0_isMirror_0 1 rfl rfl)
theorem dX0_isMirror_2 : decode cX0_isMirror 2 = .ok (.iload_n 2, 1) := dk_28 (dk_at dksX0_isMirror_0 2 rfl rfl)
theorem dX0_isMirror_3 : decode cX0_isMirror 3 = .ok (.bipush 30, 2) := dk_16 30 (dk_at dksX0_isMirror_0 3 rfl rfl)
theorem dX0_isMirror_5 : decode cX0_isMirror 5 = .ok (.if_icmp .ge 32, 3) := dk_162 0 32 (dk_at dksX0_isMirror_0 5 rfl rfl)
theorem dX0_isMirror_8 : decode cX0_isMirror 8 = .ok (.aload_n 0, 1) := dk_42 (dk_at dksX0_isMirror_0 8 rfl rfl)
theorem dX0_isMirror_9 : decode cX0_isMirror 9 = .ok (.iload_n 2, 1) := dk_28 (dk_at dksX0_isMirror_0 9 rfl rfl)
theorem dX0_isMirror_10 : decode cX0_isMirror 10 = .ok (.invokevirtual 172, 3) := dk_182 0 172 (dk_at dksX0_isMirror_0 10 rfl rfl)
theorem dX0_isMirror_13 : decode cX0_isMirror 13 = .ok (.aload_n 0, 1) := dk_42 (dk_at dksX0_isMirror_0 13 rfl rfl)
theorem dX0_isMirror_14 : decode cX0_isMirror 14 = .ok (.iload_n 1, 1) := dk_27 (dk_at dksX0_isMirror_0 14 rfl rfl)
theorem dX0_isMirror_15 : decode cX0_isMirror 15 = .ok (.iload_n 2, 1) := dk_28 (dk_at dksX0_isMirror_0 15 rfl rfl)
theorem dX0_isMirror_16 : decode cX0_isMirror 16 = .ok (.isub, 1) := dk_100 (dk_at dksX0_isMirror_0 16 rfl rfl)
theorem dX0_isMirror_17 : decode cX0_isMirror 17 = .ok (.bipush 30, 2) := dk_16 30 (dk_at dksX0_isMirror_0 17 rfl rfl)
theorem dX0_isMirror_19 : decode cX0_isMirror 19 = .ok (.iadd, 1) := dk_96 (dk_at dksX0_isMirror_0 19 rfl rfl)
theorem dX0_isMirror_20 : decode cX0_isMirror 20 = .ok (.bipush 30, 2) := dk_16 30 (dk_at dksX0_isMirror_0 20 rfl rfl)
theorem dX0_isMirror_22 : decode cX0_isMirror 22 = .ok (.irem, 1) := dk_112 (dk_at dksX0_isMirror_0 22 rfl rfl)
theorem dX0_isMirror_23 : decode cX0_isMirror 23 = .ok (.invokevirtual 172, 3) := dk_182 0 172 (dk_at dksX0_isMirror_1 0 rfl rfl)
theorem dX0_isMirror_26 : decode cX0_isMirror 26 = .ok (.if_icmp .eq 5, 3) := dk_159 0 5 (dk_at dksX0_isMirror_1 3 rfl rfl)
theorem dX0_isMirror_29 : decode cX0_isMirror 29 = .ok (.iconst 0, 1) := dk_3 (dk_at dksX0_isMirror_1 6 rfl rfl)
theorem dX0_isMirror_30 : decode cX0_isMirror 30 = .ok (.ireturn, 1) := dk_172 (dk_at dksX0_isMirror_1 7 rfl rfl)
theorem dX0_isMirror_31 : decode cX0_isMirror 31 = .ok (.iinc 2 1, 3) := dk_132 2 1 (dk_at dksX0_isMirror_1 8 rfl rfl)
theorem dX0_isMirror_34 : decode cX0_isMirror 34 = .ok (.goto (-32), 3) := dk_167 255 224 (dk_at dksX0_isMirror_1 11 rfl rfl)
theorem dX0_isMirror_37 : decode cX0_isMirror 37 = .ok (.iconst 1, 1) := dk_4 (dk_at dksX0_isMirror_1 14 rfl rfl)
theorem dX0_isMirror_38 : decode cX0_isMirror 38 = .ok (.ireturn, 1) := dk_172 (dk_at dksX0_isMirror_1 15 rfl rfl)
abbrev cX0_longest : ByteArray := prog_1_method_86_code
def yX0_longest : MethodName := ⟨RX0, "longest", "(IZ)I"⟩
def dkwX0_longest_3 : List UInt8 := [154, 0, 7, 2, 167, 0, 4, 29, 172]
abbrev dktX0_longest_3 : List UInt8 := dkwX0_longest_3 ++ []
def dkwX0_longest_2 : List UInt8 := [167, 255, 227, 28, 154, 0, 12, 42, 29, 27, 182, 1, 105, 167, 0, 17, 42, 29, 27, 182, 1, 105]
abbrev dktX0_longest_2 : List UInt8 := dkwX0_longest_2 ++ dktX0_longest_3
def dkwX0_longest_1 : List UInt8 := [42, 21, 4, 27, 182, 1, 105, 42, 29, 27, 182, 1, 105, 164, 0, 6, 21, 4, 62, 132, 4, 1]
abbrev dktX0_longest_1 : List UInt8 := dkwX0_longest_1 ++ dktX0_longest_2
def dkwX0_longest_0 : List UInt8 := [27, 3, 6, 184, 0, 58, 154, 0, 6, 16, 254, 172, 3, 62, 4, 54, 4, 21, 4, 16, 30, 162, 0, 28]
abbrev dktX0_longest_0 : List UInt8 := dkwX0_longest_0 ++ dktX0_longest_1
theorem dksX0_longest_0 : cX0_longest.data.toList.drop 0 = dktX0_longest_0 := by decide +kernel
theorem dksX0_longest_1 : cX0_longest.data.toList.drop 24 = dktX0_longest_1 := dk_seg dksX0_longest_0 24 rfl rfl
theorem dksX0_longest_2 : cX0_longest.data.toList.drop 46 = dktX0_longest_2 := dk_seg dksX0_longest_1 22 rfl rfl
theorem dksX0_longest_3 : cX0_longest.data.toList.drop 68 = dktX0_longest_3 := dk_seg dksX0_longest_2 22 rfl rfl
theorem dX0_longest_0 : decode cX0_longest 0 = .ok (.iload_n 1, 1) := dk_27 (dk_at dksX0_longest_0 0 rfl rfl)
theorem dX0_longest_1 : decode cX0_longest 1 = .ok (.iconst 0, 1) := dk_3 (dk_at dksX0_longest_0 1 rfl rfl)
theorem dX0_longest_2 : decode cX0_longest 2 = .ok (.iconst 3, 1) := dk_6 (dk_at dksX0_longest_0 2 rfl rfl)
theorem dX0_longest_3 : decode cX0_longest 3 = .ok (.invokestatic 58, 3) := dk_184 0 58 (dk_at dksX0_longest_0 3 rfl rfl)
theorem dX0_longest_6 : decode cX0_longest 6 = .ok (.ifCond .ne 6, 3) := dk_154 0 6 (dk_at dksX0_longest_0 6 rfl rfl)
theorem dX0_longest_9 : decode cX0_longest 9 = .ok (.bipush (-2), 2) := dk_16 254 (dk_at dksX0_longest_0 9 rfl rfl)
theorem dX0_longest_11 : decode cX0_longest 11 = .ok (.ireturn, 1) := dk_172 (dk_at dksX0_longest_0 11 rfl rfl)
theorem dX0_longest_12 : decode cX0_longest 12 = .ok (.iconst 0, 1) := dk_3 (dk_at dksX0_longest_0 12 rfl rfl)
theorem dX0_longest_13 : decode cX0_longest 13 = .ok (.istore_n 3, 1) := dk_62 (dk_at dksX0_longest_0 13 rfl rfl)
theorem dX0_longest_14 : decode cX0_longest 14 = .ok (.iconst 1, 1) := dk_4 (dk_at dksX0_longest_0 14 rfl rfl)
theorem dX0_longest_15 : decode cX0_longest 15 = .ok (.istore 4, 2) := dk_54 4 (dk_at dksX0_longest_0 15 rfl rfl)
theorem dX0_longest_17 : decode cX0_longest 17 = .ok (.iload 4, 2) := dk_21 4 (dk_at dksX0_longest_0 17 rfl rfl)
theorem dX0_longest_19 : decode cX0_longest 19 = .ok (.bipush 30, 2) := dk_16 30 (dk_at dksX0_longest_0 19 rfl rfl)
theorem dX0_longest_21 : decode cX0_longest 21 = .ok (.if_icmp .ge 28, 3) := dk_162 0 28 (dk_at dksX0_longest_0 21 rfl rfl)
theorem dX0_longest_24 : decode cX0_longest 24 = .ok (.aload_n 0, 1) := dk_42 (dk_at dksX0_longest_1 0 rfl rfl)
theorem dX0_longest_25 : decode cX0_longest 25 = .ok (.iload 4, 2) := dk_21 4 (dk_at dksX0_longest_1 1 rfl rfl)
theorem dX0_longest_27 : decode cX0_longest 27 = .ok (.iload_n 1, 1) := dk_27 (dk_at dksX0_longest_1 3 rfl rfl)
theorem dX0_longest_28 : decode cX0_longest 28 = .ok (.invokevirtual 361, 3) := dk_182 1 105 (dk_at dksX0_longest_1 4 rfl rfl)
theorem dX0_longest_31 : decode cX0_longest 31 = .ok (.aload_n 0, 1) := dk_42 (dk_at dksX0_longest_1 7 rfl rfl)
theorem dX0_longest_32 : decode cX0_longest 32 = .ok (.iload_n 3, 1) := dk_29 (dk_at dksX0_longest_1 8 rfl rfl)
theorem dX0_longest_33 : decode cX0_longest 33 = .ok (.iload_n 1, 1) := dk_27 (dk_at dksX0_longest_1 9 rfl rfl)
theorem dX0_longest_34 : decode cX0_longest 34 = .ok (.invokevirtual 361, 3) := dk_182 1 105 (dk_at dksX0_longest_1 10 rfl rfl)
theorem dX0_longest_37 : decode cX0_longest 37 = .ok (.if_icmp .le 6, 3) := dk_164 0 6 (dk_at dksX0_longest_1 13 rfl rfl)
theorem dX0_longest_40 : decode cX0_longest 40 = .ok (.iload 4, 2) := dk_21 4 (dk_at dksX0_longest_1 16 rfl rfl)
theorem dX0_longest_42 : decode cX0_longest 42 = .ok (.istore_n 3, 1) := dk_62 (dk_at dksX0_longest_1 18 rfl rfl)
theorem dX0_longest_43 : decode cX0_longest 43 = .ok (.iinc 4 1, 3) := dk_132 4 1 (dk_at dksX0_longest_1 19 rfl rfl)
theorem dX0_longest_46 : decode cX0_longest 46 = .ok (.goto (-29), 3) := dk_167 255 227 (dk_at dksX0_longest_2 0 rfl rfl)
theorem dX0_longest_49 : decode cX0_longest 49 = .ok (.iload_n 2, 1) := dk_28 (dk_at dksX0_longest_2 3 rfl rfl)
theorem dX0_longest_50 : decode cX0_longest 50 = .ok (.ifCond .ne 12, 3) := dk_154 0 12 (dk_at dksX0_longest_2 4 rfl rfl)
theorem dX0_longest_53 : decode cX0_longest 53 = .ok (.aload_n 0, 1) := dk_42 (dk_at dksX0_longest_2 7 rfl rfl)
theorem dX0_longest_54 : decode cX0_longest 54 = .ok (.iload_n 3, 1) := dk_29 (dk_at dksX0_longest_2 8 rfl rfl)
theorem dX0_longest_55 : decode cX0_longest 55 = .ok (.iload_n 1, 1) := dk_27 (dk_at dksX0_longest_2 9 rfl rfl)
theorem dX0_longest_56 : decode cX0_longest 56 = .ok (.invokevirtual 361, 3) := dk_182 1 105 (dk_at dksX0_longest_2 10 rfl rfl)
theorem dX0_longest_59 : decode cX0_longest 59 = .ok (.goto 17, 3) := dk_167 0 17 (dk_at dksX0_longest_2 13 rfl rfl)
theorem dX0_longest_62 : decode cX0_longest 62 = .ok (.aload_n 0, 1) := dk_42 (dk_at dksX0_longest_2 16 rfl rfl)
theorem dX0_longest_63 : decode cX0_longest 63 = .ok (.iload_n 3, 1) := dk_29 (dk_at dksX0_longest_2 17 rfl rfl)
theorem dX0_longest_64 : decode cX0_longest 64 = .ok (.iload_n 1, 1) := dk_27 (dk_at dksX0_longest_2 18 rfl rfl)
theorem dX0_longest_65 : decode cX0_longest 65 = .ok (.invokevirtual 361, 3) := dk_182 1 105 (dk_at dksX0_longest_2 19 rfl rfl)
theorem dX0_longest_68 : decode cX0_longest 68 = .ok (.ifCond .ne 7, 3) := dk_154 0 7 (dk_at dksX0_longest_3 0 rfl rfl)
theorem dX0_longest_71 : decode cX0_longest 71 = .ok (.iconst (-1), 1) := dk_2 (dk_at dksX0_longest_3 3 rfl rfl)
theorem dX0_longest_72 : decode cX0_longest 72 = .ok (.goto 4, 3) := dk_167 0 4 (dk_at dksX0_longest_3 4 rfl rfl)
theorem dX0_longest_75 : decode cX0_longest 75 = .ok (.iload_n 3, 1) := dk_29 (dk_at dksX0_longest_3 7 rfl rfl)
theorem dX0_longest_76 : decode cX0_longest 76 = .ok (.ireturn, 1) := dk_172 (dk_at dksX0_longest_3 8 rfl rfl)
abbrev cX0_runFrom : ByteArray := prog_1_method_85_code
def yX0_runFrom : MethodName := ⟨RX0, "runFrom", "(II)I"⟩
def dkwX0_runFrom_1 : List UInt8 := [132, 3, 1, 167, 255, 233, 29, 172]
abbrev dktX0_runFrom_1 : List UInt8 := dkwX0_runFrom_1 ++ []
def dkwX0_runFrom_0 : List UInt8 := [3, 62, 29, 16, 30, 162, 0, 23, 42, 27, 29, 96, 16, 30, 112, 182, 0, 172, 28, 160, 0, 9]
abbrev dktX0_runFrom_0 : List UInt8 := dkwX0_runFrom_0 ++ dktX0_runFrom_1
theorem dksX0_runFrom_0 : cX0_runFrom.data.toList.drop 0 = dktX0_runFrom_0 := by decide +kernel
theorem dksX0_runFrom_1 : cX0_runFrom.data.toList.drop 22 = dktX0_runFrom_1 := dk_seg dksX0_runFrom_0 22 rfl rfl
theorem dX0_runFrom_0 : decode cX0_runFrom 0 = .ok (.iconst 0, 1) := dk_3 (dk_at dksX0_runFrom_0 0 rfl rfl)
theorem dX0_runFrom_1 : decode cX0_runFrom 1 = .ok (.istore_n 3, 1) := dk_62 (dk_at dksX0_runFrom_0 1 rfl rfl)
theorem dX0_runFrom_2 : decode cX0_runFrom 2 = .ok (.iload_n 3, 1) := dk_29 (dk_at dksX0_runFrom_0 2 rfl rfl)
theorem dX0_runFrom_3 : decode cX0_runFrom 3 = .ok (.bipush 30, 2) := dk_16 30 (dk_at dksX0_runFrom_0 3 rfl rfl)
theorem dX0_runFrom_5 : decode cX0_runFrom 5 = .ok (.if_icmp .ge 23, 3) := dk_162 0 23 (dk_at dksX0_runFrom_0 5 rfl rfl)
theorem dX0_runFrom_8 : decode cX0_runFrom 8 = .ok (.aload_n 0, 1) := dk_42 (dk_at dksX0_runFrom_0 8 rfl rfl)
theorem dX0_runFrom_9 : decode cX0_runFrom 9 = .ok (.iload_n 1, 1) := dk_27 (dk_at dksX0_runFrom_0 9 rfl rfl)
theorem dX0_runFrom_10 : decode cX0_runFrom 10 = .ok (.iload_n 3, 1) := dk_29 (dk_at dksX0_runFrom_0 10 rfl rfl)
theorem dX0_runFrom_11 : decode cX0_runFrom 11 = .ok (.iadd, 1) := dk_96 (dk_at dksX0_runFrom_0 11 rfl rfl)
theorem dX0_runFrom_12 : decode cX0_runFrom 12 = .ok (.bipush 30, 2) := dk_16 30 (dk_at dksX0_runFrom_0 12 rfl rfl)
theorem dX0_runFrom_14 : decode cX0_runFrom 14 = .ok (.irem, 1) := dk_112 (dk_at dksX0_runFrom_0 14 rfl rfl)
theorem dX0_runFrom_15 : decode cX0_runFrom 15 = .ok (.invokevirtual 172, 3) := dk_182 0 172 (dk_at dksX0_runFrom_0 15 rfl rfl)
theorem dX0_runFrom_18 : decode cX0_runFrom 18 = .ok (.iload_n 2, 1) := dk_28 (dk_at dksX0_runFrom_0 18 rfl rfl)
theorem dX0_runFrom_19 : decode cX0_runFrom 19 = .ok (.if_icmp .ne 9, 3) := dk_160 0 9 (dk_at dksX0_runFrom_0 19 rfl rfl)
theorem dX0_runFrom_22 : decode cX0_runFrom 22 = .ok (.iinc 3 1, 3) := dk_132 3 1 (dk_at dksX0_runFrom_1 0 rfl rfl)
theorem dX0_runFrom_25 : decode cX0_runFrom 25 = .ok (.goto (-23), 3) := dk_167 255 233 (dk_at dksX0_runFrom_1 3 rfl rfl)
theorem dX0_runFrom_28 : decode cX0_runFrom 28 = .ok (.iload_n 3, 1) := dk_29 (dk_at dksX0_runFrom_1 6 rfl rfl)
theorem dX0_runFrom_29 : decode cX0_runFrom 29 = .ok (.ireturn, 1) := dk_172 (dk_at dksX0_runFrom_1 7 rfl rfl)
abbrev cX0_arc : ByteArray := prog_1_method_87_code
def yX0_arc : MethodName := ⟨RX0, "arc", "(I)I"⟩
def dkwX0_arc_1 : List UInt8 := [27, 182, 1, 10, 42, 28, 27, 182, 1, 10, 164, 0, 5, 29, 61, 132, 3, 1, 167, 255, 230, 28, 172]
abbrev dktX0_arc_1 : List UInt8 := dkwX0_arc_1 ++ []
def dkwX0_arc_0 : List UInt8 := [27, 4, 16, 30, 184, 0, 58, 154, 0, 5, 2, 172, 3, 61, 4, 62, 29, 16, 30, 162, 0, 26, 42, 29]
abbrev dktX0_arc_0 : List UInt8 := dkwX0_arc_0 ++ dktX0_arc_1
theorem dksX0_arc_0 : cX0_arc.data.toList.drop 0 = dktX0_arc_0 := by decide +kernel
theorem dksX0_arc_1 : cX0_arc.data.toList.drop 24 = dktX0_arc_1 := dk_seg dksX0_arc_0 24 rfl rfl
theorem dX0_arc_0 : decode cX0_arc 0 = .ok (.iload_n 1, 1) := dk_27 (dk_at dksX0_arc_0 0 rfl rfl)
theorem dX0_arc_1 : decode cX0_arc 1 = .ok (.iconst 1, 1) := dk_4 (dk_at dksX0_arc_0 1 rfl rfl)
theorem dX0_arc_2 : decode cX0_arc 2 = .ok (.bipush 30, 2) := dk_16 30 (dk_at dksX0_arc_0 2 rfl rfl)
theorem dX0_arc_4 : decode cX0_arc 4 = .ok (.invokestatic 58, 3) := dk_184 0 58 (dk_at dksX0_arc_0 4 rfl rfl)
theorem dX0_arc_7 : decode cX0_arc 7 = .ok (.ifCond .ne 5, 3) := dk_154 0 5 (dk_at dksX0_arc_0 7 rfl rfl)
theorem dX0_arc_10 : decode cX0_arc 10 = .ok (.iconst (-1), 1) := dk_2 (dk_at dksX0_arc_0 10 rfl rfl)
theorem dX0_arc_11 : decode cX0_arc 11 = .ok (.ireturn, 1) := dk_172 (dk_at dksX0_arc_0 11 rfl rfl)
theorem dX0_arc_12 : decode cX0_arc 12 = .ok (.iconst 0, 1) := dk_3 (dk_at dksX0_arc_0 12 rfl rfl)
theorem dX0_arc_13 : decode cX0_arc 13 = .ok (.istore_n 2, 1) := dk_61 (dk_at dksX0_arc_0 13 rfl rfl)
theorem dX0_arc_14 : decode cX0_arc 14 = .ok (.iconst 1, 1) := dk_4 (dk_at dksX0_arc_0 14 rfl rfl)
theorem dX0_arc_15 : decode cX0_arc 15 = .ok (.istore_n 3, 1) := dk_62 (dk_at dksX0_arc_0 15 rfl rfl)
theorem dX0_arc_16 : decode cX0_arc 16 = .ok (.iload_n 3, 1) := dk_29 (dk_at dksX0_arc_0 16 rfl rfl)
theorem dX0_arc_17 : decode cX0_arc 17 = .ok (.bipush 30, 2) := dk_16 30 (dk_at dksX0_arc_0 17 rfl rfl)
theorem dX0_arc_19 : decode cX0_arc 19 = .ok (.if_icmp .ge 26, 3) := dk_162 0 26 (dk_at dksX0_arc_0 19 rfl rfl)
theorem dX0_arc_22 : decode cX0_arc 22 = .ok (.aload_n 0, 1) := dk_42 (dk_at dksX0_arc_0 22 rfl rfl)
theorem dX0_arc_23 : decode cX0_arc 23 = .ok (.iload_n 3, 1) := dk_29 (dk_at dksX0_arc_0 23 rfl rfl)
theorem dX0_arc_24 : decode cX0_arc 24 = .ok (.iload_n 1, 1) := dk_27 (dk_at dksX0_arc_1 0 rfl rfl)
theorem dX0_arc_25 : decode cX0_arc 25 = .ok (.invokevirtual 266, 3) := dk_182 1 10 (dk_at dksX0_arc_1 1 rfl rfl)
theorem dX0_arc_28 : decode cX0_arc 28 = .ok (.aload_n 0, 1) := dk_42 (dk_at dksX0_arc_1 4 rfl rfl)
theorem dX0_arc_29 : decode cX0_arc 29 = .ok (.iload_n 2, 1) := dk_28 (dk_at dksX0_arc_1 5 rfl rfl)
theorem dX0_arc_30 : decode cX0_arc 30 = .ok (.iload_n 1, 1) := dk_27 (dk_at dksX0_arc_1 6 rfl rfl)
theorem dX0_arc_31 : decode cX0_arc 31 = .ok (.invokevirtual 266, 3) := dk_182 1 10 (dk_at dksX0_arc_1 7 rfl rfl)
theorem dX0_arc_34 : decode cX0_arc 34 = .ok (.if_icmp .le 5, 3) := dk_164 0 5 (dk_at dksX0_arc_1 10 rfl rfl)
theorem dX0_arc_37 : decode cX0_arc 37 = .ok (.iload_n 3, 1) := dk_29 (dk_at dksX0_arc_1 13 rfl rfl)
theorem dX0_arc_38 : decode cX0_arc 38 = .ok (.istore_n 2, 1) := dk_61 (dk_at dksX0_arc_1 14 rfl rfl)
theorem dX0_arc_39 : decode cX0_arc 39 = .ok (.iinc 3 1, 3) := dk_132 3 1 (dk_at dksX0_arc_1 15 rfl rfl)
theorem dX0_arc_42 : decode cX0_arc 42 = .ok (.goto (-26), 3) := dk_167 255 230 (dk_at dksX0_arc_1 18 rfl rfl)
theorem dX0_arc_45 : decode cX0_arc 45 = .ok (.iload_n 2, 1) := dk_28 (dk_at dksX0_arc_1 21 rfl rfl)
theorem dX0_arc_46 : decode cX0_arc 46 = .ok (.ireturn, 1) := dk_172 (dk_at dksX0_arc_1 22 rfl rfl)
abbrev cX0_quiet : ByteArray := prog_1_method_88_code
def yX0_quiet : MethodName := ⟨RX0, "quiet", "(I)I"⟩
def dkwX0_quiet_1 : List UInt8 := [29, 27, 182, 1, 10, 154, 0, 7, 4, 167, 0, 4, 3, 96, 61, 132, 3, 1, 167, 255, 230, 28, 172]
abbrev dktX0_quiet_1 : List UInt8 := dkwX0_quiet_1 ++ []
def dkwX0_quiet_0 : List UInt8 := [27, 4, 16, 30, 184, 0, 58, 154, 0, 5, 2, 172, 3, 61, 3, 62, 29, 16, 30, 162, 0, 26, 28, 42]
abbrev dktX0_quiet_0 : List UInt8 := dkwX0_quiet_0 ++ dktX0_quiet_1
theorem dksX0_quiet_0 : cX0_quiet.data.toList.drop 0 = dktX0_quiet_0 := by decide +kernel
theorem dksX0_quiet_1 : cX0_quiet.data.toList.drop 24 = dktX0_quiet_1 := dk_seg dksX0_quiet_0 24 rfl rfl
theorem dX0_quiet_0 : decode cX0_quiet 0 = .ok (.iload_n 1, 1) := dk_27 (dk_at dksX0_quiet_0 0 rfl rfl)
theorem dX0_quiet_1 : decode cX0_quiet 1 = .ok (.iconst 1, 1) := dk_4 (dk_at dksX0_quiet_0 1 rfl rfl)
theorem dX0_quiet_2 : decode cX0_quiet 2 = .ok (.bipush 30, 2) := dk_16 30 (dk_at dksX0_quiet_0 2 rfl rfl)
theorem dX0_quiet_4 : decode cX0_quiet 4 = .ok (.invokestatic 58, 3) := dk_184 0 58 (dk_at dksX0_quiet_0 4 rfl rfl)
theorem dX0_quiet_7 : decode cX0_quiet 7 = .ok (.ifCond .ne 5, 3) := dk_154 0 5 (dk_at dksX0_quiet_0 7 rfl rfl)
theorem dX0_quiet_10 : decode cX0_quiet 10 = .ok (.iconst (-1), 1) := dk_2 (dk_at dksX0_quiet_0 10 rfl rfl)
theorem dX0_quiet_11 : decode cX0_quiet 11 = .ok (.ireturn, 1) := dk_172 (dk_at dksX0_quiet_0 11 rfl rfl)
theorem dX0_quiet_12 : decode cX0_quiet 12 = .ok (.iconst 0, 1) := dk_3 (dk_at dksX0_quiet_0 12 rfl rfl)
theorem dX0_quiet_13 : decode cX0_quiet 13 = .ok (.istore_n 2, 1) := dk_61 (dk_at dksX0_quiet_0 13 rfl rfl)
theorem dX0_quiet_14 : decode cX0_quiet 14 = .ok (.iconst 0, 1) := dk_3 (dk_at dksX0_quiet_0 14 rfl rfl)
theorem dX0_quiet_15 : decode cX0_quiet 15 = .ok (.istore_n 3, 1) := dk_62 (dk_at dksX0_quiet_0 15 rfl rfl)
theorem dX0_quiet_16 : decode cX0_quiet 16 = .ok (.iload_n 3, 1) := dk_29 (dk_at dksX0_quiet_0 16 rfl rfl)
theorem dX0_quiet_17 : decode cX0_quiet 17 = .ok (.bipush 30, 2) := dk_16 30 (dk_at dksX0_quiet_0 17 rfl rfl)
theorem dX0_quiet_19 : decode cX0_quiet 19 = .ok (.if_icmp .ge 26, 3) := dk_162 0 26 (dk_at dksX0_quiet_0 19 rfl rfl)
theorem dX0_quiet_22 : decode cX0_quiet 22 = .ok (.iload_n 2, 1) := dk_28 (dk_at dksX0_quiet_0 22 rfl rfl)
theorem dX0_quiet_23 : decode cX0_quiet 23 = .ok (.aload_n 0, 1) := dk_42 (dk_at dksX0_quiet_0 23 rfl rfl)
theorem dX0_quiet_24 : decode cX0_quiet 24 = .ok (.iload_n 3, 1) := dk_29 (dk_at dksX0_quiet_1 0 rfl rfl)
theorem dX0_quiet_25 : decode cX0_quiet 25 = .ok (.iload_n 1, 1) := dk_27 (dk_at dksX0_quiet_1 1 rfl rfl)
theorem dX0_quiet_26 : decode cX0_quiet 26 = .ok (.invokevirtual 266, 3) := dk_182 1 10 (dk_at dksX0_quiet_1 2 rfl rfl)
theorem dX0_quiet_29 : decode cX0_quiet 29 = .ok (.ifCond .ne 7, 3) := dk_154 0 7 (dk_at dksX0_quiet_1 5 rfl rfl)
theorem dX0_quiet_32 : decode cX0_quiet 32 = .ok (.iconst 1, 1) := dk_4 (dk_at dksX0_quiet_1 8 rfl rfl)
theorem dX0_quiet_33 : decode cX0_quiet 33 = .ok (.goto 4, 3) := dk_167 0 4 (dk_at dksX0_quiet_1 9 rfl rfl)
theorem dX0_quiet_36 : decode cX0_quiet 36 = .ok (.iconst 0, 1) := dk_3 (dk_at dksX0_quiet_1 12 rfl rfl)
theorem dX0_quiet_37 : decode cX0_quiet 37 = .ok (.iadd, 1) := dk_96 (dk_at dksX0_quiet_1 13 rfl rfl)
theorem dX0_quiet_38 : decode cX0_quiet 38 = .ok (.istore_n 2, 1) := dk_61 (dk_at dksX0_quiet_1 14 rfl rfl)
theorem dX0_quiet_39 : decode cX0_quiet 39 = .ok (.iinc 3 1, 3) := dk_132 3 1 (dk_at dksX0_quiet_1 15 rfl rfl)
theorem dX0_quiet_42 : decode cX0_quiet 42 = .ok (.goto (-26), 3) := dk_167 255 230 (dk_at dksX0_quiet_1 18 rfl rfl)
theorem dX0_quiet_45 : decode cX0_quiet 45 = .ok (.iload_n 2, 1) := dk_28 (dk_at dksX0_quiet_1 21 rfl rfl)
theorem dX0_quiet_46 : decode cX0_quiet 46 = .ok (.ireturn, 1) := dk_172 (dk_at dksX0_quiet_1 22 rfl rfl)
abbrev cX0_changed : ByteArray := prog_1_method_89_code
def yX0_changed : MethodName := ⟨RX0, "changed", "()I"⟩
def dkwX0_changed_1 : List UInt8 := [28, 96, 46, 160, 0, 7, 3, 167, 0, 6, 4, 28, 120, 128, 60, 132, 2, 1, 167, 255, 218, 27, 172]
abbrev dktX0_changed_1 : List UInt8 := dkwX0_changed_1 ++ []
def dkwX0_changed_0 : List UInt8 := [3, 60, 3, 61, 28, 16, 30, 162, 0, 38, 27, 42, 28, 182, 0, 172, 42, 180, 0, 25, 180, 0, 65, 5]
abbrev dktX0_changed_0 : List UInt8 := dkwX0_changed_0 ++ dktX0_changed_1
theorem dksX0_changed_0 : cX0_changed.data.toList.drop 0 = dktX0_changed_0 := by decide +kernel
theorem dksX0_changed_1 : cX0_changed.data.toList.drop 24 = dktX0_changed_1 := dk_seg dksX0_changed_0 24 rfl rfl
theorem dX0_changed_0 : decode cX0_changed 0 = .ok (.iconst 0, 1) := dk_3 (dk_at dksX0_changed_0 0 rfl rfl)
theorem dX0_changed_1 : decode cX0_changed 1 = .ok (.istore_n 1, 1) := dk_60 (dk_at dksX0_changed_0 1 rfl rfl)
theorem dX0_changed_2 : decode cX0_changed 2 = .ok (.iconst 0, 1) := dk_3 (dk_at dksX0_changed_0 2 rfl rfl)
theorem dX0_changed_3 : decode cX0_changed 3 = .ok (.istore_n 2, 1) := dk_61 (dk_at dksX0_changed_0 3 rfl rfl)
theorem dX0_changed_4 : decode cX0_changed 4 = .ok (.iload_n 2, 1) := dk_28 (dk_at dksX0_changed_0 4 rfl rfl)
theorem dX0_changed_5 : decode cX0_changed 5 = .ok (.bipush 30, 2) := dk_16 30 (dk_at dksX0_changed_0 5 rfl rfl)
theorem dX0_changed_7 : decode cX0_changed 7 = .ok (.if_icmp .ge 38, 3) := dk_162 0 38 (dk_at dksX0_changed_0 7 rfl rfl)
theorem dX0_changed_10 : decode cX0_changed 10 = .ok (.iload_n 1, 1) := dk_27 (dk_at dksX0_changed_0 10 rfl rfl)
theorem dX0_changed_11 : decode cX0_changed 11 = .ok (.aload_n 0, 1) := dk_42 (dk_at dksX0_changed_0 11 rfl rfl)
theorem dX0_changed_12 : decode cX0_changed 12 = .ok (.iload_n 2, 1) := dk_28 (dk_at dksX0_changed_0 12 rfl rfl)
theorem dX0_changed_13 : decode cX0_changed 13 = .ok (.invokevirtual 172, 3) := dk_182 0 172 (dk_at dksX0_changed_0 13 rfl rfl)
theorem dX0_changed_16 : decode cX0_changed 16 = .ok (.aload_n 0, 1) := dk_42 (dk_at dksX0_changed_0 16 rfl rfl)
theorem dX0_changed_17 : decode cX0_changed 17 = .ok (.getfield 25, 3) := dk_180 0 25 (dk_at dksX0_changed_0 17 rfl rfl)
theorem dX0_changed_20 : decode cX0_changed 20 = .ok (.getfield 65, 3) := dk_180 0 65 (dk_at dksX0_changed_0 20 rfl rfl)
theorem dX0_changed_23 : decode cX0_changed 23 = .ok (.iconst 2, 1) := dk_5 (dk_at dksX0_changed_0 23 rfl rfl)
theorem dX0_changed_24 : decode cX0_changed 24 = .ok (.iload_n 2, 1) := dk_28 (dk_at dksX0_changed_1 0 rfl rfl)
theorem dX0_changed_25 : decode cX0_changed 25 = .ok (.iadd, 1) := dk_96 (dk_at dksX0_changed_1 1 rfl rfl)
theorem dX0_changed_26 : decode cX0_changed 26 = .ok (.iaload, 1) := dk_46 (dk_at dksX0_changed_1 2 rfl rfl)
theorem dX0_changed_27 : decode cX0_changed 27 = .ok (.if_icmp .ne 7, 3) := dk_160 0 7 (dk_at dksX0_changed_1 3 rfl rfl)
theorem dX0_changed_30 : decode cX0_changed 30 = .ok (.iconst 0, 1) := dk_3 (dk_at dksX0_changed_1 6 rfl rfl)
theorem dX0_changed_31 : decode cX0_changed 31 = .ok (.goto 6, 3) := dk_167 0 6 (dk_at dksX0_changed_1 7 rfl rfl)
theorem dX0_changed_34 : decode cX0_changed 34 = .ok (.iconst 1, 1) := dk_4 (dk_at dksX0_changed_1 10 rfl rfl)
theorem dX0_changed_35 : decode cX0_changed 35 = .ok (.iload_n 2, 1) := dk_28 (dk_at dksX0_changed_1 11 rfl rfl)
theorem dX0_changed_36 : decode cX0_changed 36 = .ok (.ishl, 1) := dk_120 (dk_at dksX0_changed_1 12 rfl rfl)
theorem dX0_changed_37 : decode cX0_changed 37 = .ok (.ior, 1) := dk_128 (dk_at dksX0_changed_1 13 rfl rfl)
theorem dX0_changed_38 : decode cX0_changed 38 = .ok (.istore_n 1, 1) := dk_60 (dk_at dksX0_changed_1 14 rfl rfl)
theorem dX0_changed_39 : decode cX0_changed 39 = .ok (.iinc 2 1, 3) := dk_132 2 1 (dk_at dksX0_changed_1 15 rfl rfl)
theorem dX0_changed_42 : decode cX0_changed 42 = .ok (.goto (-38), 3) := dk_167 255 218 (dk_at dksX0_changed_1 18 rfl rfl)
theorem dX0_changed_45 : decode cX0_changed 45 = .ok (.iload_n 1, 1) := dk_27 (dk_at dksX0_changed_1 21 rfl rfl)
theorem dX0_changed_46 : decode cX0_changed 46 = .ok (.ireturn, 1) := dk_172 (dk_at dksX0_changed_1 22 rfl rfl)
abbrev cX0_said : ByteArray := prog_1_method_90_code
def yX0_said : MethodName := ⟨RX0, "said", "(III)I"⟩
def dkwX0_said_3 : List UInt8 := [167, 0, 5, 16, 254, 172]
abbrev dktX0_said_3 : List UInt8 := dkwX0_said_3 ++ []
def dkwX0_said_2 : List UInt8 := [46, 16, 8, 162, 0, 24, 42, 180, 0, 21, 42, 180, 0, 21, 180, 1, 108, 8, 27, 28, 29, 182, 1, 63]
abbrev dktX0_said_2 : List UInt8 := dkwX0_said_2 ++ dktX0_said_3
def dkwX0_said_1 : List UInt8 := [184, 0, 68, 153, 0, 48, 29, 3, 16, 10, 184, 0, 58, 153, 0, 38, 42, 180, 0, 21, 180, 0, 62, 8]
abbrev dktX0_said_1 : List UInt8 := dkwX0_said_1 ++ dktX0_said_2
def dkwX0_said_0 : List UInt8 := [27, 2, 160, 0, 12, 42, 180, 0, 21, 8, 182, 1, 57, 172, 42, 27, 182, 0, 159, 153, 0, 55, 28]
abbrev dktX0_said_0 : List UInt8 := dkwX0_said_0 ++ dktX0_said_1
theorem dksX0_said_0 : cX0_said.data.toList.drop 0 = dktX0_said_0 := by decide +kernel
theorem dksX0_said_1 : cX0_said.data.toList.drop 23 = dktX0_said_1 := dk_seg dksX0_said_0 23 rfl rfl
theorem dksX0_said_2 : cX0_said.data.toList.drop 47 = dktX0_said_2 := dk_seg dksX0_said_1 24 rfl rfl
theorem dksX0_said_3 : cX0_said.data.toList.drop 71 = dktX0_said_3 := dk_seg dksX0_said_2 24 rfl rfl
theorem dX0_said_0 : decode cX0_said 0 = .ok (.iload_n 1, 1) := dk_27 (dk_at dksX0_said_0 0 rfl rfl)
theorem dX0_said_1 : decode cX0_said 1 = .ok (.iconst (-1), 1) := dk_2 (dk_at dksX0_said_0 1 rfl rfl)
theorem dX0_said_2 : decode cX0_said 2 = .ok (.if_icmp .ne 12, 3) := dk_160 0 12 (dk_at dksX0_said_0 2 rfl rfl)
theorem dX0_said_5 : decode cX0_said 5 = .ok (.aload_n 0, 1) := dk_42 (dk_at dksX0_said_0 5 rfl rfl)
theorem dX0_said_6 : decode cX0_said 6 = .ok (.getfield 21, 3) := dk_180 0 21 (dk_at dksX0_said_0 6 rfl rfl)
theorem dX0_said_9 : decode cX0_said 9 = .ok (.iconst 5, 1) := dk_8 (dk_at dksX0_said_0 9 rfl rfl)
theorem dX0_said_10 : decode cX0_said 10 = .ok (.invokevirtual 313, 3) := dk_182 1 57 (dk_at dksX0_said_0 10 rfl rfl)
theorem dX0_said_13 : decode cX0_said 13 = .ok (.ireturn, 1) := dk_172 (dk_at dksX0_said_0 13 rfl rfl)
theorem dX0_said_14 : decode cX0_said 14 = .ok (.aload_n 0, 1) := dk_42 (dk_at dksX0_said_0 14 rfl rfl)
theorem dX0_said_15 : decode cX0_said 15 = .ok (.iload_n 1, 1) := dk_27 (dk_at dksX0_said_0 15 rfl rfl)
theorem dX0_said_16 : decode cX0_said 16 = .ok (.invokevirtual 159, 3) := dk_182 0 159 (dk_at dksX0_said_0 16 rfl rfl)
theorem dX0_said_19 : decode cX0_said 19 = .ok (.ifCond .eq 55, 3) := dk_153 0 55 (dk_at dksX0_said_0 19 rfl rfl)
theorem dX0_said_22 : decode cX0_said 22 = .ok (.iload_n 2, 1) := dk_28 (dk_at dksX0_said_0 22 rfl rfl)
theorem dX0_said_23 : decode cX0_said 23 = .ok (.invokestatic 68, 3) := dk_184 0 68 (dk_at dksX0_said_1 0 rfl rfl)
theorem dX0_said_26 : decode cX0_said 26 = .ok (.ifCond .eq 48, 3) := dk_153 0 48 (dk_at dksX0_said_1 3 rfl rfl)
theorem dX0_said_29 : decode cX0_said 29 = .ok (.iload_n 3, 1) := dk_29 (dk_at dksX0_said_1 6 rfl rfl)
theorem dX0_said_30 : decode cX0_said 30 = .ok (.iconst 0, 1) := dk_3 (dk_at dksX0_said_1 7 rfl rfl)
theorem dX0_said_31 : decode cX0_said 31 = .ok (.bipush 10, 2) := dk_16 10 (dk_at dksX0_said_1 8 rfl rfl)
theorem dX0_said_33 : decode cX0_said 33 = .ok (.invokestatic 58, 3) := dk_184 0 58 (dk_at dksX0_said_1 10 rfl rfl)
theorem dX0_said_36 : decode cX0_said 36 = .ok (.ifCond .eq 38, 3) := dk_153 0 38 (dk_at dksX0_said_1 13 rfl rfl)
theorem dX0_said_39 : decode cX0_said 39 = .ok (.aload_n 0, 1) := dk_42 (dk_at dksX0_said_1 16 rfl rfl)
theorem dX0_said_40 : decode cX0_said 40 = .ok (.getfield 21, 3) := dk_180 0 21 (dk_at dksX0_said_1 17 rfl rfl)
theorem dX0_said_43 : decode cX0_said 43 = .ok (.getfield 62, 3) := dk_180 0 62 (dk_at dksX0_said_1 20 rfl rfl)
theorem dX0_said_46 : decode cX0_said 46 = .ok (.iconst 5, 1) := dk_8 (dk_at dksX0_said_1 23 rfl rfl)
theorem dX0_said_47 : decode cX0_said 47 = .ok (.iaload, 1) := dk_46 (dk_at dksX0_said_2 0 rfl rfl)
theorem dX0_said_48 : decode cX0_said 48 = .ok (.bipush 8, 2) := dk_16 8 (dk_at dksX0_said_2 1 rfl rfl)
theorem dX0_said_50 : decode cX0_said 50 = .ok (.if_icmp .ge 24, 3) := dk_162 0 24 (dk_at dksX0_said_2 3 rfl rfl)
theorem dX0_said_53 : decode cX0_said 53 = .ok (.aload_n 0, 1) := dk_42 (dk_at dksX0_said_2 6 rfl rfl)
theorem dX0_said_54 : decode cX0_said 54 = .ok (.getfield 21, 3) := dk_180 0 21 (dk_at dksX0_said_2 7 rfl rfl)
theorem dX0_said_57 : decode cX0_said 57 = .ok (.aload_n 0, 1) := dk_42 (dk_at dksX0_said_2 10 rfl rfl)
theorem dX0_said_58 : decode cX0_said 58 = .ok (.getfield 21, 3) := dk_180 0 21 (dk_at dksX0_said_2 11 rfl rfl)
theorem dX0_said_61 : decode cX0_said 61 = .ok (.getfield 364, 3) := dk_180 1 108 (dk_at dksX0_said_2 14 rfl rfl)
theorem dX0_said_64 : decode cX0_said 64 = .ok (.iconst 5, 1) := dk_8 (dk_at dksX0_said_2 17 rfl rfl)
theorem dX0_said_65 : decode cX0_said 65 = .ok (.iload_n 1, 1) := dk_27 (dk_at dksX0_said_2 18 rfl rfl)
theorem dX0_said_66 : decode cX0_said 66 = .ok (.iload_n 2, 1) := dk_28 (dk_at dksX0_said_2 19 rfl rfl)
theorem dX0_said_67 : decode cX0_said 67 = .ok (.iload_n 3, 1) := dk_29 (dk_at dksX0_said_2 20 rfl rfl)
theorem dX0_said_68 : decode cX0_said 68 = .ok (.invokevirtual 319, 3) := dk_182 1 63 (dk_at dksX0_said_2 21 rfl rfl)
theorem dX0_said_71 : decode cX0_said 71 = .ok (.goto 5, 3) := dk_167 0 5 (dk_at dksX0_said_3 0 rfl rfl)
theorem dX0_said_74 : decode cX0_said 74 = .ok (.bipush (-2), 2) := dk_16 254 (dk_at dksX0_said_3 3 rfl rfl)
theorem dX0_said_76 : decode cX0_said 76 = .ok (.ireturn, 1) := dk_172 (dk_at dksX0_said_3 5 rfl rfl)
abbrev cX0_whose : ByteArray := prog_1_method_92_code
def yX0_whose : MethodName := ⟨RX0, "whose", "()I"⟩
def dkwX0_whose_2 : List UInt8 := [167, 255, 214, 27, 172]
abbrev dktX0_whose_2 : List UInt8 := dkwX0_whose_2 ++ []
def dkwX0_whose_1 : List UInt8 := [180, 0, 89, 28, 50, 182, 1, 111, 153, 0, 9, 4, 28, 120, 167, 0, 4, 3, 128, 60, 132, 2, 1]
abbrev dktX0_whose_1 : List UInt8 := dkwX0_whose_1 ++ dktX0_whose_2
def dkwX0_whose_0 : List UInt8 := [3, 60, 3, 61, 28, 42, 180, 0, 21, 180, 0, 62, 4, 46, 162, 0, 35, 27, 42, 42, 180, 0, 21]
abbrev dktX0_whose_0 : List UInt8 := dkwX0_whose_0 ++ dktX0_whose_1
theorem dksX0_whose_0 : cX0_whose.data.toList.drop 0 = dktX0_whose_0 := by decide +kernel
theorem dksX0_whose_1 : cX0_whose.data.toList.drop 23 = dktX0_whose_1 := dk_seg dksX0_whose_0 23 rfl rfl
theorem dksX0_whose_2 : cX0_whose.data.toList.drop 46 = dktX0_whose_2 := dk_seg dksX0_whose_1 23 rfl rfl
theorem dX0_whose_0 : decode cX0_whose 0 = .ok (.iconst 0, 1) := dk_3 (dk_at dksX0_whose_0 0 rfl rfl)
theorem dX0_whose_1 : decode cX0_whose 1 = .ok (.istore_n 1, 1) := dk_60 (dk_at dksX0_whose_0 1 rfl rfl)
theorem dX0_whose_2 : decode cX0_whose 2 = .ok (.iconst 0, 1) := dk_3 (dk_at dksX0_whose_0 2 rfl rfl)
theorem dX0_whose_3 : decode cX0_whose 3 = .ok (.istore_n 2, 1) := dk_61 (dk_at dksX0_whose_0 3 rfl rfl)
theorem dX0_whose_4 : decode cX0_whose 4 = .ok (.iload_n 2, 1) := dk_28 (dk_at dksX0_whose_0 4 rfl rfl)
theorem dX0_whose_5 : decode cX0_whose 5 = .ok (.aload_n 0, 1) := dk_42 (dk_at dksX0_whose_0 5 rfl rfl)
theorem dX0_whose_6 : decode cX0_whose 6 = .ok (.getfield 21, 3) := dk_180 0 21 (dk_at dksX0_whose_0 6 rfl rfl)
theorem dX0_whose_9 : decode cX0_whose 9 = .ok (.getfield 62, 3) := dk_180 0 62 (dk_at dksX0_whose_0 9 rfl rfl)
theorem dX0_whose_12 : decode cX0_whose 12 = .ok (.iconst 1, 1) := dk_4 (dk_at dksX0_whose_0 12 rfl rfl)
theorem dX0_whose_13 : decode cX0_whose 13 = .ok (.iaload, 1) := dk_46 (dk_at dksX0_whose_0 13 rfl rfl)
theorem dX0_whose_14 : decode cX0_whose 14 = .ok (.if_icmp .ge 35, 3) := dk_162 0 35 (dk_at dksX0_whose_0 14 rfl rfl)
theorem dX0_whose_17 : decode cX0_whose 17 = .ok (.iload_n 1, 1) := dk_27 (dk_at dksX0_whose_0 17 rfl rfl)
theorem dX0_whose_18 : decode cX0_whose 18 = .ok (.aload_n 0, 1) := dk_42 (dk_at dksX0_whose_0 18 rfl rfl)
theorem dX0_whose_19 : decode cX0_whose 19 = .ok (.aload_n 0, 1) := dk_42 (dk_at dksX0_whose_0 19 rfl rfl)
theorem dX0_whose_20 : decode cX0_whose 20 = .ok (.getfield 21, 3) := dk_180 0 21 (dk_at dksX0_whose_0 20 rfl rfl)
theorem dX0_whose_23 : decode cX0_whose 23 = .ok (.getfield 89, 3) := dk_180 0 89 (dk_at dksX0_whose_1 0 rfl rfl)
theorem dX0_whose_26 : decode cX0_whose 26 = .ok (.iload_n 2, 1) := dk_28 (dk_at dksX0_whose_1 3 rfl rfl)
theorem dX0_whose_27 : decode cX0_whose 27 = .ok (.aaload, 1) := dk_50 (dk_at dksX0_whose_1 4 rfl rfl)
theorem dX0_whose_28 : decode cX0_whose 28 = .ok (.invokevirtual 367, 3) := dk_182 1 111 (dk_at dksX0_whose_1 5 rfl rfl)
theorem dX0_whose_31 : decode cX0_whose 31 = .ok (.ifCond .eq 9, 3) := dk_153 0 9 (dk_at dksX0_whose_1 8 rfl rfl)
theorem dX0_whose_34 : decode cX0_whose 34 = .ok (.iconst 1, 1) := dk_4 (dk_at dksX0_whose_1 11 rfl rfl)
theorem dX0_whose_35 : decode cX0_whose 35 = .ok (.iload_n 2, 1) := dk_28 (dk_at dksX0_whose_1 12 rfl rfl)
theorem dX0_whose_36 : decode cX0_whose 36 = .ok (.ishl, 1) := dk_120 (dk_at dksX0_whose_1 13 rfl rfl)
theorem dX0_whose_37 : decode cX0_whose 37 = .ok (.goto 4, 3) := dk_167 0 4 (dk_at dksX0_whose_1 14 rfl rfl)
theorem dX0_whose_40 : decode cX0_whose 40 = .ok (.iconst 0, 1) := dk_3 (dk_at dksX0_whose_1 17 rfl rfl)
theorem dX0_whose_41 : decode cX0_whose 41 = .ok (.ior, 1) := dk_128 (dk_at dksX0_whose_1 18 rfl rfl)
theorem dX0_whose_42 : decode cX0_whose 42 = .ok (.istore_n 1, 1) := dk_60 (dk_at dksX0_whose_1 19 rfl rfl)
theorem dX0_whose_43 : decode cX0_whose 43 = .ok (.iinc 2 1, 3) := dk_132 2 1 (dk_at dksX0_whose_1 20 rfl rfl)
theorem dX0_whose_46 : decode cX0_whose 46 = .ok (.goto (-42), 3) := dk_167 255 214 (dk_at dksX0_whose_2 0 rfl rfl)
theorem dX0_whose_49 : decode cX0_whose 49 = .ok (.iload_n 1, 1) := dk_27 (dk_at dksX0_whose_2 3 rfl rfl)
theorem dX0_whose_50 : decode cX0_whose 50 = .ok (.ireturn, 1) := dk_172 (dk_at dksX0_whose_2 4 rfl rfl)
abbrev cX0_isLaw : ByteArray := prog_1_method_91_code
def yX0_isLaw : MethodName := ⟨RX0, "isLaw", "(LRailingsCount$Text;)Z"⟩
def dkwX0_isLaw_3 : List UInt8 := [167, 255, 189, 4, 172]
abbrev dktX0_isLaw_3 : List UInt8 := dkwX0_isLaw_3 ++ []
def dkwX0_isLaw_2 : List UInt8 := [182, 0, 151, 42, 180, 0, 21, 180, 1, 108, 28, 50, 5, 46, 159, 0, 5, 3, 172, 132, 2, 1]
abbrev dktX0_isLaw_2 : List UInt8 := dkwX0_isLaw_2 ++ dktX0_isLaw_3
def dkwX0_isLaw_1 : List UInt8 := [42, 180, 0, 21, 180, 1, 108, 28, 50, 3, 46, 42, 180, 0, 21, 180, 1, 108, 28, 50, 4, 46, 4]
abbrev dktX0_isLaw_1 : List UInt8 := dkwX0_isLaw_1 ++ dktX0_isLaw_2
def dkwX0_isLaw_0 : List UInt8 := [3, 61, 28, 42, 180, 0, 21, 180, 0, 62, 8, 46, 162, 0, 60, 42, 43, 42, 180, 0, 21, 180, 0, 65]
abbrev dktX0_isLaw_0 : List UInt8 := dkwX0_isLaw_0 ++ dktX0_isLaw_1
theorem dksX0_isLaw_0 : cX0_isLaw.data.toList.drop 0 = dktX0_isLaw_0 := by decide +kernel
theorem dksX0_isLaw_1 : cX0_isLaw.data.toList.drop 24 = dktX0_isLaw_1 := dk_seg dksX0_isLaw_0 24 rfl rfl
theorem dksX0_isLaw_2 : cX0_isLaw.data.toList.drop 47 = dktX0_isLaw_2 := dk_seg dksX0_isLaw_1 23 rfl rfl
theorem dksX0_isLaw_3 : cX0_isLaw.data.toList.drop 69 = dktX0_isLaw_3 := dk_seg dksX0_isLaw_2 22 rfl rfl
theorem dX0_isLaw_0 : decode cX0_isLaw 0 = .ok (.iconst 0, 1) := dk_3 (dk_at dksX0_isLaw_0 0 rfl rfl)
theorem dX0_isLaw_1 : decode cX0_isLaw 1 = .ok (.istore_n 2, 1) := dk_61 (dk_at dksX0_isLaw_0 1 rfl rfl)
theorem dX0_isLaw_2 : decode cX0_isLaw 2 = .ok (.iload_n 2, 1) := dk_28 (dk_at dksX0_isLaw_0 2 rfl rfl)
theorem dX0_isLaw_3 : decode cX0_isLaw 3 = .ok (.aload_n 0, 1) := dk_42 (dk_at dksX0_isLaw_0 3 rfl rfl)
theorem dX0_isLaw_4 : decode cX0_isLaw 4 = .ok (.getfield 21, 3) := dk_180 0 21 (dk_at dksX0_isLaw_0 4 rfl rfl)
theorem dX0_isLaw_7 : decode cX0_isLaw 7 = .ok (.getfield 62, 3) := dk_180 0 62 (dk_at dksX0_isLaw_0 7 rfl rfl)
theorem dX0_isLaw_10 : decode cX0_isLaw 10 = .ok (.iconst 5, 1) := dk_8 (dk_at dksX0_isLaw_0 10 rfl rfl)
theorem dX0_isLaw_11 : decode cX0_isLaw 11 = .ok (.iaload, 1) := dk_46 (dk_at dksX0_isLaw_0 11 rfl rfl)
theorem dX0_isLaw_12 : decode cX0_isLaw 12 = .ok (.if_icmp .ge 60, 3) := dk_162 0 60 (dk_at dksX0_isLaw_0 12 rfl rfl)
theorem dX0_isLaw_15 : decode cX0_isLaw 15 = .ok (.aload_n 0, 1) := dk_42 (dk_at dksX0_isLaw_0 15 rfl rfl)
theorem dX0_isLaw_16 : decode cX0_isLaw 16 = .ok (.aload_n 1, 1) := dk_43 (dk_at dksX0_isLaw_0 16 rfl rfl)
theorem dX0_isLaw_17 : decode cX0_isLaw 17 = .ok (.aload_n 0, 1) := dk_42 (dk_at dksX0_isLaw_0 17 rfl rfl)
theorem dX0_isLaw_18 : decode cX0_isLaw 18 = .ok (.getfield 21, 3) := dk_180 0 21 (dk_at dksX0_isLaw_0 18 rfl rfl)
theorem dX0_isLaw_21 : decode cX0_isLaw 21 = .ok (.getfield 65, 3) := dk_180 0 65 (dk_at dksX0_isLaw_0 21 rfl rfl)
theorem dX0_isLaw_24 : decode cX0_isLaw 24 = .ok (.aload_n 0, 1) := dk_42 (dk_at dksX0_isLaw_1 0 rfl rfl)
theorem dX0_isLaw_25 : decode cX0_isLaw 25 = .ok (.getfield 21, 3) := dk_180 0 21 (dk_at dksX0_isLaw_1 1 rfl rfl)
theorem dX0_isLaw_28 : decode cX0_isLaw 28 = .ok (.getfield 364, 3) := dk_180 1 108 (dk_at dksX0_isLaw_1 4 rfl rfl)
theorem dX0_isLaw_31 : decode cX0_isLaw 31 = .ok (.iload_n 2, 1) := dk_28 (dk_at dksX0_isLaw_1 7 rfl rfl)
theorem dX0_isLaw_32 : decode cX0_isLaw 32 = .ok (.aaload, 1) := dk_50 (dk_at dksX0_isLaw_1 8 rfl rfl)
theorem dX0_isLaw_33 : decode cX0_isLaw 33 = .ok (.iconst 0, 1) := dk_3 (dk_at dksX0_isLaw_1 9 rfl rfl)
theorem dX0_isLaw_34 : decode cX0_isLaw 34 = .ok (.iaload, 1) := dk_46 (dk_at dksX0_isLaw_1 10 rfl rfl)
theorem dX0_isLaw_35 : decode cX0_isLaw 35 = .ok (.aload_n 0, 1) := dk_42 (dk_at dksX0_isLaw_1 11 rfl rfl)
theorem dX0_isLaw_36 : decode cX0_isLaw 36 = .ok (.getfield 21, 3) := dk_180 0 21 (dk_at dksX0_isLaw_1 12 rfl rfl)
theorem dX0_isLaw_39 : decode cX0_isLaw 39 = .ok (.getfield 364, 3) := dk_180 1 108 (dk_at dksX0_isLaw_1 15 rfl rfl)
theorem dX0_isLaw_42 : decode cX0_isLaw 42 = .ok (.iload_n 2, 1) := dk_28 (dk_at dksX0_isLaw_1 18 rfl rfl)
theorem dX0_isLaw_43 : decode cX0_isLaw 43 = .ok (.aaload, 1) := dk_50 (dk_at dksX0_isLaw_1 19 rfl rfl)
theorem dX0_isLaw_44 : decode cX0_isLaw 44 = .ok (.iconst 1, 1) := dk_4 (dk_at dksX0_isLaw_1 20 rfl rfl)
theorem dX0_isLaw_45 : decode cX0_isLaw 45 = .ok (.iaload, 1) := dk_46 (dk_at dksX0_isLaw_1 21 rfl rfl)
theorem dX0_isLaw_46 : decode cX0_isLaw 46 = .ok (.iconst 1, 1) := dk_4 (dk_at dksX0_isLaw_1 22 rfl rfl)
theorem dX0_isLaw_47 : decode cX0_isLaw 47 = .ok (.invokevirtual 151, 3) := dk_182 0 151 (dk_at dksX0_isLaw_2 0 rfl rfl)
theorem dX0_isLaw_50 : decode cX0_isLaw 50 = .ok (.aload_n 0, 1) := dk_42 (dk_at dksX0_isLaw_2 3 rfl rfl)
theorem dX0_isLaw_51 : decode cX0_isLaw 51 = .ok (.getfield 21, 3) := dk_180 0 21 (dk_at dksX0_isLaw_2 4 rfl rfl)
theorem dX0_isLaw_54 : decode cX0_isLaw 54 = .ok (.getfield 364, 3) := dk_180 1 108 (dk_at dksX0_isLaw_2 7 rfl rfl)
theorem dX0_isLaw_57 : decode cX0_isLaw 57 = .ok (.iload_n 2, 1) := dk_28 (dk_at dksX0_isLaw_2 10 rfl rfl)
theorem dX0_isLaw_58 : decode cX0_isLaw 58 = .ok (.aaload, 1) := dk_50 (dk_at dksX0_isLaw_2 11 rfl rfl)
theorem dX0_isLaw_59 : decode cX0_isLaw 59 = .ok (.iconst 2, 1) := dk_5 (dk_at dksX0_isLaw_2 12 rfl rfl)
theorem dX0_isLaw_60 : decode cX0_isLaw 60 = .ok (.iaload, 1) := dk_46 (dk_at dksX0_isLaw_2 13 rfl rfl)
theorem dX0_isLaw_61 : decode cX0_isLaw 61 = .ok (.if_icmp .eq 5, 3) := dk_159 0 5 (dk_at dksX0_isLaw_2 14 rfl rfl)
theorem dX0_isLaw_64 : decode cX0_isLaw 64 = .ok (.iconst 0, 1) := dk_3 (dk_at dksX0_isLaw_2 17 rfl rfl)
theorem dX0_isLaw_65 : decode cX0_isLaw 65 = .ok (.ireturn, 1) := dk_172 (dk_at dksX0_isLaw_2 18 rfl rfl)
theorem dX0_isLaw_66 : decode cX0_isLaw 66 = .ok (.iinc 2 1, 3) := dk_132 2 1 (dk_at dksX0_isLaw_2 19 rfl rfl)
theorem dX0_isLaw_69 : decode cX0_isLaw 69 = .ok (.goto (-67), 3) := dk_167 255 189 (dk_at dksX0_isLaw_3 0 rfl rfl)
theorem dX0_isLaw_72 : decode cX0_isLaw 72 = .ok (.iconst 1, 1) := dk_4 (dk_at dksX0_isLaw_3 3 rfl rfl)
theorem dX0_isLaw_73 : decode cX0_isLaw 73 = .ok (.ireturn, 1) := dk_172 (dk_at dksX0_isLaw_3 4 rfl rfl)
abbrev cX0_greatest : ByteArray := prog_1_method_93_code
def yX0_greatest : MethodName := ⟨RX0, "greatest", "()I"⟩
def dkwX0_greatest_2 : List UInt8 := [96, 46, 164, 0, 5, 28, 60, 132, 2, 1, 167, 255, 202, 27, 172]
abbrev dktX0_greatest_2 : List UInt8 := dkwX0_greatest_2 ++ []
def dkwX0_greatest_1 : List UInt8 := [16, 62, 28, 96, 46, 27, 2, 160, 0, 7, 2, 167, 0, 15, 42, 180, 0, 21, 180, 0, 65, 16, 62, 27]
abbrev dktX0_greatest_1 : List UInt8 := dkwX0_greatest_1 ++ dktX0_greatest_2
def dkwX0_greatest_0 : List UInt8 := [2, 60, 3, 61, 28, 42, 180, 0, 21, 180, 0, 62, 3, 46, 162, 0, 47, 42, 180, 0, 21, 180, 0, 65]
abbrev dktX0_greatest_0 : List UInt8 := dkwX0_greatest_0 ++ dktX0_greatest_1
theorem dksX0_greatest_0 : cX0_greatest.data.toList.drop 0 = dktX0_greatest_0 := by decide +kernel
theorem dksX0_greatest_1 : cX0_greatest.data.toList.drop 24 = dktX0_greatest_1 := dk_seg dksX0_greatest_0 24 rfl rfl
theorem dksX0_greatest_2 : cX0_greatest.data.toList.drop 48 = dktX0_greatest_2 := dk_seg dksX0_greatest_1 24 rfl rfl
theorem dX0_greatest_0 : decode cX0_greatest 0 = .ok (.iconst (-1), 1) := dk_2 (dk_at dksX0_greatest_0 0 rfl rfl)
theorem dX0_greatest_1 : decode cX0_greatest 1 = .ok (.istore_n 1, 1) := dk_60 (dk_at dksX0_greatest_0 1 rfl rfl)
theorem dX0_greatest_2 : decode cX0_greatest 2 = .ok (.iconst 0, 1) := dk_3 (dk_at dksX0_greatest_0 2 rfl rfl)
theorem dX0_greatest_3 : decode cX0_greatest 3 = .ok (.istore_n 2, 1) := dk_61 (dk_at dksX0_greatest_0 3 rfl rfl)
theorem dX0_greatest_4 : decode cX0_greatest 4 = .ok (.iload_n 2, 1) := dk_28 (dk_at dksX0_greatest_0 4 rfl rfl)
theorem dX0_greatest_5 : decode cX0_greatest 5 = .ok (.aload_n 0, 1) := dk_42 (dk_at dksX0_greatest_0 5 rfl rfl)
theorem dX0_greatest_6 : decode cX0_greatest 6 = .ok (.getfield 21, 3) := dk_180 0 21 (dk_at dksX0_greatest_0 6 rfl rfl)
theorem dX0_greatest_9 : decode cX0_greatest 9 = .ok (.getfield 62, 3) := dk_180 0 62 (dk_at dksX0_greatest_0 9 rfl rfl)
theorem dX0_greatest_12 : decode cX0_greatest 12 = .ok (.iconst 0, 1) := dk_3 (dk_at dksX0_greatest_0 12 rfl rfl)
theorem dX0_greatest_13 : decode cX0_greatest 13 = .ok (.iaload, 1) := dk_46 (dk_at dksX0_greatest_0 13 rfl rfl)
theorem dX0_greatest_14 : decode cX0_greatest 14 = .ok (.if_icmp .ge 47, 3) := dk_162 0 47 (dk_at dksX0_greatest_0 14 rfl rfl)
theorem dX0_greatest_17 : decode cX0_greatest 17 = .ok (.aload_n 0, 1) := dk_42 (dk_at dksX0_greatest_0 17 rfl rfl)
theorem dX0_greatest_18 : decode cX0_greatest 18 = .ok (.getfield 21, 3) := dk_180 0 21 (dk_at dksX0_greatest_0 18 rfl rfl)
theorem dX0_greatest_21 : decode cX0_greatest 21 = .ok (.getfield 65, 3) := dk_180 0 65 (dk_at dksX0_greatest_0 21 rfl rfl)
theorem dX0_greatest_24 : decode cX0_greatest 24 = .ok (.bipush 62, 2) := dk_16 62 (dk_at dksX0_greatest_1 0 rfl rfl)
theorem dX0_greatest_26 : decode cX0_greatest 26 = .ok (.iload_n 2, 1) := dk_28 (dk_at dksX0_greatest_1 2 rfl rfl)
theorem dX0_greatest_27 : decode cX0_greatest 27 = .ok (.iadd, 1) := dk_96 (dk_at dksX0_greatest_1 3 rfl rfl)
theorem dX0_greatest_28 : decode cX0_greatest 28 = .ok (.iaload, 1) := dk_46 (dk_at dksX0_greatest_1 4 rfl rfl)
theorem dX0_greatest_29 : decode cX0_greatest 29 = .ok (.iload_n 1, 1) := dk_27 (dk_at dksX0_greatest_1 5 rfl rfl)
theorem dX0_greatest_30 : decode cX0_greatest 30 = .ok (.iconst (-1), 1) := dk_2 (dk_at dksX0_greatest_1 6 rfl rfl)
theorem dX0_greatest_31 : decode cX0_greatest 31 = .ok (.if_icmp .ne 7, 3) := dk_160 0 7 (dk_at dksX0_greatest_1 7 rfl rfl)
theorem dX0_greatest_34 : decode cX0_greatest 34 = .ok (.iconst (-1), 1) := dk_2 (dk_at dksX0_greatest_1 10 rfl rfl)
theorem dX0_greatest_35 : decode cX0_greatest 35 = .ok (.goto 15, 3) := dk_167 0 15 (dk_at dksX0_greatest_1 11 rfl rfl)
theorem dX0_greatest_38 : decode cX0_greatest 38 = .ok (.aload_n 0, 1) := dk_42 (dk_at dksX0_greatest_1 14 rfl rfl)
theorem dX0_greatest_39 : decode cX0_greatest 39 = .ok (.getfield 21, 3) := dk_180 0 21 (dk_at dksX0_greatest_1 15 rfl rfl)
theorem dX0_greatest_42 : decode cX0_greatest 42 = .ok (.getfield 65, 3) := dk_180 0 65 (dk_at dksX0_greatest_1 18 rfl rfl)
theorem dX0_greatest_45 : decode cX0_greatest 45 = .ok (.bipush 62, 2) := dk_16 62 (dk_at dksX0_greatest_1 21 rfl rfl)
theorem dX0_greatest_47 : decode cX0_greatest 47 = .ok (.iload_n 1, 1) := dk_27 (dk_at dksX0_greatest_1 23 rfl rfl)
theorem dX0_greatest_48 : decode cX0_greatest 48 = .ok (.iadd, 1) := dk_96 (dk_at dksX0_greatest_2 0 rfl rfl)
theorem dX0_greatest_49 : decode cX0_greatest 49 = .ok (.iaload, 1) := dk_46 (dk_at dksX0_greatest_2 1 rfl rfl)
theorem dX0_greatest_50 : decode cX0_greatest 50 = .ok (.if_icmp .le 5, 3) := dk_164 0 5 (dk_at dksX0_greatest_2 2 rfl rfl)
theorem dX0_greatest_53 : decode cX0_greatest 53 = .ok (.iload_n 2, 1) := dk_28 (dk_at dksX0_greatest_2 5 rfl rfl)
theorem dX0_greatest_54 : decode cX0_greatest 54 = .ok (.istore_n 1, 1) := dk_60 (dk_at dksX0_greatest_2 6 rfl rfl)
theorem dX0_greatest_55 : decode cX0_greatest 55 = .ok (.iinc 2 1, 3) := dk_132 2 1 (dk_at dksX0_greatest_2 7 rfl rfl)
theorem dX0_greatest_58 : decode cX0_greatest 58 = .ok (.goto (-54), 3) := dk_167 255 202 (dk_at dksX0_greatest_2 10 rfl rfl)
theorem dX0_greatest_61 : decode cX0_greatest 61 = .ok (.iload_n 1, 1) := dk_27 (dk_at dksX0_greatest_2 13 rfl rfl)
theorem dX0_greatest_62 : decode cX0_greatest 62 = .ok (.ireturn, 1) := dk_172 (dk_at dksX0_greatest_2 14 rfl rfl)
abbrev cX0_twins : ByteArray := prog_1_method_94_code
def yX0_twins : MethodName := ⟨RX0, "twins", "()I"⟩
def dkwX0_twins_3 : List UInt8 := [167, 255, 205, 132, 2, 1, 167, 255, 184, 27, 172]
abbrev dktX0_twins_3 : List UInt8 := dkwX0_twins_3 ++ []
def dkwX0_twins_2 : List UInt8 := [180, 0, 21, 180, 0, 65, 16, 62, 29, 96, 46, 160, 0, 7, 4, 167, 0, 4, 3, 96, 60, 132, 3, 1]
abbrev dktX0_twins_2 : List UInt8 := dkwX0_twins_2 ++ dktX0_twins_3
def dkwX0_twins_1 : List UInt8 := [27, 42, 28, 182, 0, 162, 154, 0, 34, 42, 180, 0, 21, 180, 0, 65, 16, 62, 28, 96, 46, 42]
abbrev dktX0_twins_1 : List UInt8 := dkwX0_twins_1 ++ dktX0_twins_2
def dkwX0_twins_0 : List UInt8 := [3, 60, 3, 61, 28, 42, 180, 0, 21, 180, 0, 62, 3, 46, 162, 0, 65, 3, 62, 29, 28, 162, 0, 52]
abbrev dktX0_twins_0 : List UInt8 := dkwX0_twins_0 ++ dktX0_twins_1
theorem dksX0_twins_0 : cX0_twins.data.toList.drop 0 = dktX0_twins_0 := by decide +kernel
theorem dksX0_twins_1 : cX0_twins.data.toList.drop 24 = dktX0_twins_1 := dk_seg dksX0_twins_0 24 rfl rfl
theorem dksX0_twins_2 : cX0_twins.data.toList.drop 46 = dktX0_twins_2 := dk_seg dksX0_twins_1 22 rfl rfl
theorem dksX0_twins_3 : cX0_twins.data.toList.drop 70 = dktX0_twins_3 := dk_seg dksX0_twins_2 24 rfl rfl
theorem dX0_twins_0 : decode cX0_twins 0 = .ok (.iconst 0, 1) := dk_3 (dk_at dksX0_twins_0 0 rfl rfl)
theorem dX0_twins_1 : decode cX0_twins 1 = .ok (.istore_n 1, 1) := dk_60 (dk_at dksX0_twins_0 1 rfl rfl)
theorem dX0_twins_2 : decode cX0_twins 2 = .ok (.iconst 0, 1) := dk_3 (dk_at dksX0_twins_0 2 rfl rfl)
theorem dX0_twins_3 : decode cX0_twins 3 = .ok (.istore_n 2, 1) := dk_61 (dk_at dksX0_twins_0 3 rfl rfl)
theorem dX0_twins_4 : decode cX0_twins 4 = .ok (.iload_n 2, 1) := dk_28 (dk_at dksX0_twins_0 4 rfl rfl)
theorem dX0_twins_5 : decode cX0_twins 5 = .ok (.aload_n 0, 1) := dk_42 (dk_at dksX0_twins_0 5 rfl rfl)
theorem dX0_twins_6 : decode cX0_twins 6 = .ok (.getfield 21, 3) := dk_180 0 21 (dk_at dksX0_twins_0 6 rfl rfl)
theorem dX0_twins_9 : decode cX0_twins 9 = .ok (.getfield 62, 3) := dk_180 0 62 (dk_at dksX0_twins_0 9 rfl rfl)
theorem dX0_twins_12 : decode cX0_twins 12 = .ok (.iconst 0, 1) := dk_3 (dk_at dksX0_twins_0 12 rfl rfl)
theorem dX0_twins_13 : decode cX0_twins 13 = .ok (.iaload, 1) := dk_46 (dk_at dksX0_twins_0 13 rfl rfl)
theorem dX0_twins_14 : decode cX0_twins 14 = .ok (.if_icmp .ge 65, 3) := dk_162 0 65 (dk_at dksX0_twins_0 14 rfl rfl)
theorem dX0_twins_17 : decode cX0_twins 17 = .ok (.iconst 0, 1) := dk_3 (dk_at dksX0_twins_0 17 rfl rfl)
theorem dX0_twins_18 : decode cX0_twins 18 = .ok (.istore_n 3, 1) := dk_62 (dk_at dksX0_twins_0 18 rfl rfl)
theorem dX0_twins_19 : decode cX0_twins 19 = .ok (.iload_n 3, 1) := dk_29 (dk_at dksX0_twins_0 19 rfl rfl)
theorem dX0_twins_20 : decode cX0_twins 20 = .ok (.iload_n 2, 1) := dk_28 (dk_at dksX0_twins_0 20 rfl rfl)
theorem dX0_twins_21 : decode cX0_twins 21 = .ok (.if_icmp .ge 52, 3) := dk_162 0 52 (dk_at dksX0_twins_0 21 rfl rfl)
theorem dX0_twins_24 : decode cX0_twins 24 = .ok (.iload_n 1, 1) := dk_27 (dk_at dksX0_twins_1 0 rfl rfl)
theorem dX0_twins_25 : decode cX0_twins 25 = .ok (.aload_n 0, 1) := dk_42 (dk_at dksX0_twins_1 1 rfl rfl)
theorem dX0_twins_26 : decode cX0_twins 26 = .ok (.iload_n 2, 1) := dk_28 (dk_at dksX0_twins_1 2 rfl rfl)
theorem dX0_twins_27 : decode cX0_twins 27 = .ok (.invokevirtual 162, 3) := dk_182 0 162 (dk_at dksX0_twins_1 3 rfl rfl)
theorem dX0_twins_30 : decode cX0_twins 30 = .ok (.ifCond .ne 34, 3) := dk_154 0 34 (dk_at dksX0_twins_1 6 rfl rfl)
theorem dX0_twins_33 : decode cX0_twins 33 = .ok (.aload_n 0, 1) := dk_42 (dk_at dksX0_twins_1 9 rfl rfl)
theorem dX0_twins_34 : decode cX0_twins 34 = .ok (.getfield 21, 3) := dk_180 0 21 (dk_at dksX0_twins_1 10 rfl rfl)
theorem dX0_twins_37 : decode cX0_twins 37 = .ok (.getfield 65, 3) := dk_180 0 65 (dk_at dksX0_twins_1 13 rfl rfl)
theorem dX0_twins_40 : decode cX0_twins 40 = .ok (.bipush 62, 2) := dk_16 62 (dk_at dksX0_twins_1 16 rfl rfl)
theorem dX0_twins_42 : decode cX0_twins 42 = .ok (.iload_n 2, 1) := dk_28 (dk_at dksX0_twins_1 18 rfl rfl)
theorem dX0_twins_43 : decode cX0_twins 43 = .ok (.iadd, 1) := dk_96 (dk_at dksX0_twins_1 19 rfl rfl)
theorem dX0_twins_44 : decode cX0_twins 44 = .ok (.iaload, 1) := dk_46 (dk_at dksX0_twins_1 20 rfl rfl)
theorem dX0_twins_45 : decode cX0_twins 45 = .ok (.aload_n 0, 1) := dk_42 (dk_at dksX0_twins_1 21 rfl rfl)
theorem dX0_twins_46 : decode cX0_twins 46 = .ok (.getfield 21, 3) := dk_180 0 21 (dk_at dksX0_twins_2 0 rfl rfl)
theorem dX0_twins_49 : decode cX0_twins 49 = .ok (.getfield 65, 3) := dk_180 0 65 (dk_at dksX0_twins_2 3 rfl rfl)
theorem dX0_twins_52 : decode cX0_twins 52 = .ok (.bipush 62, 2) := dk_16 62 (dk_at dksX0_twins_2 6 rfl rfl)
theorem dX0_twins_54 : decode cX0_twins 54 = .ok (.iload_n 3, 1) := dk_29 (dk_at dksX0_twins_2 8 rfl rfl)
theorem dX0_twins_55 : decode cX0_twins 55 = .ok (.iadd, 1) := dk_96 (dk_at dksX0_twins_2 9 rfl rfl)
theorem dX0_twins_56 : decode cX0_twins 56 = .ok (.iaload, 1) := dk_46 (dk_at dksX0_twins_2 10 rfl rfl)
theorem dX0_twins_57 : decode cX0_twins 57 = .ok (.if_icmp .ne 7, 3) := dk_160 0 7 (dk_at dksX0_twins_2 11 rfl rfl)
theorem dX0_twins_60 : decode cX0_twins 60 = .ok (.iconst 1, 1) := dk_4 (dk_at dksX0_twins_2 14 rfl rfl)
theorem dX0_twins_61 : decode cX0_twins 61 = .ok (.goto 4, 3) := dk_167 0 4 (dk_at dksX0_twins_2 15 rfl rfl)
theorem dX0_twins_64 : decode cX0_twins 64 = .ok (.iconst 0, 1) := dk_3 (dk_at dksX0_twins_2 18 rfl rfl)
theorem dX0_twins_65 : decode cX0_twins 65 = .ok (.iadd, 1) := dk_96 (dk_at dksX0_twins_2 19 rfl rfl)
theorem dX0_twins_66 : decode cX0_twins 66 = .ok (.istore_n 1, 1) := dk_60 (dk_at dksX0_twins_2 20 rfl rfl)
theorem dX0_twins_67 : decode cX0_twins 67 = .ok (.iinc 3 1, 3) := dk_132 3 1 (dk_at dksX0_twins_2 21 rfl rfl)
theorem dX0_twins_70 : decode cX0_twins 70 = .ok (.goto (-51), 3) := dk_167 255 205 (dk_at dksX0_twins_3 0 rfl rfl)
theorem dX0_twins_73 : decode cX0_twins 73 = .ok (.iinc 2 1, 3) := dk_132 2 1 (dk_at dksX0_twins_3 3 rfl rfl)
theorem dX0_twins_76 : decode cX0_twins 76 = .ok (.goto (-72), 3) := dk_167 255 184 (dk_at dksX0_twins_3 6 rfl rfl)
theorem dX0_twins_79 : decode cX0_twins 79 = .ok (.iload_n 1, 1) := dk_27 (dk_at dksX0_twins_3 9 rfl rfl)
theorem dX0_twins_80 : decode cX0_twins 80 = .ok (.ireturn, 1) := dk_172 (dk_at dksX0_twins_3 10 rfl rfl)
abbrev cX0_odd : ByteArray := prog_1_method_95_code
def yX0_odd : MethodName := ⟨RX0, "odd", "()I"⟩
def dkwX0_odd_2 : List UInt8 := [167, 0, 4, 3, 128, 60, 132, 2, 1, 167, 255, 204, 27, 172]
abbrev dktX0_odd_2 : List UInt8 := dkwX0_odd_2 ++ []
def dkwX0_odd_1 : List UInt8 := [154, 0, 27, 42, 180, 0, 21, 180, 0, 65, 16, 62, 28, 96, 46, 5, 112, 4, 160, 0, 9, 4, 28, 120]
abbrev dktX0_odd_1 : List UInt8 := dkwX0_odd_1 ++ dktX0_odd_2
def dkwX0_odd_0 : List UInt8 := [3, 60, 3, 61, 28, 42, 180, 0, 21, 180, 0, 62, 3, 46, 162, 0, 45, 27, 42, 28, 182, 0, 162]
abbrev dktX0_odd_0 : List UInt8 := dkwX0_odd_0 ++ dktX0_odd_1
theorem dksX0_odd_0 : cX0_odd.data.toList.drop 0 = dktX0_odd_0 := by decide +kernel
theorem dksX0_odd_1 : cX0_odd.data.toList.drop 23 = dktX0_odd_1 := dk_seg dksX0_odd_0 23 rfl rfl
theorem dksX0_odd_2 : cX0_odd.data.toList.drop 47 = dktX0_odd_2 := dk_seg dksX0_odd_1 24 rfl rfl
theorem dX0_odd_0 : decode cX0_odd 0 = .ok (.iconst 0, 1) := dk_3 (dk_at dksX0_odd_0 0 rfl rfl)
theorem dX0_odd_1 : decode cX0_odd 1 = .ok (.istore_n 1, 1) := dk_60 (dk_at dksX0_odd_0 1 rfl rfl)
theorem dX0_odd_2 : decode cX0_odd 2 = .ok (.iconst 0, 1) := dk_3 (dk_at dksX0_odd_0 2 rfl rfl)
theorem dX0_odd_3 : decode cX0_odd 3 = .ok (.istore_n 2, 1) := dk_61 (dk_at dksX0_odd_0 3 rfl rfl)
theorem dX0_odd_4 : decode cX0_odd 4 = .ok (.iload_n 2, 1) := dk_28 (dk_at dksX0_odd_0 4 rfl rfl)
theorem dX0_odd_5 : decode cX0_odd 5 = .ok (.aload_n 0, 1) := dk_42 (dk_at dksX0_odd_0 5 rfl rfl)
theorem dX0_odd_6 : decode cX0_odd 6 = .ok (.getfield 21, 3) := dk_180 0 21 (dk_at dksX0_odd_0 6 rfl rfl)
theorem dX0_odd_9 : decode cX0_odd 9 = .ok (.getfield 62, 3) := dk_180 0 62 (dk_at dksX0_odd_0 9 rfl rfl)
theorem dX0_odd_12 : decode cX0_odd 12 = .ok (.iconst 0, 1) := dk_3 (dk_at dksX0_odd_0 12 rfl rfl)
theorem dX0_odd_13 : decode cX0_odd 13 = .ok (.iaload, 1) := dk_46 (dk_at dksX0_odd_0 13 rfl rfl)
theorem dX0_odd_14 : decode cX0_odd 14 = .ok (.if_icmp .ge 45, 3) := dk_162 0 45 (dk_at dksX0_odd_0 14 rfl rfl)
theorem dX0_odd_17 : decode cX0_odd 17 = .ok (.iload_n 1, 1) := dk_27 (dk_at dksX0_odd_0 17 rfl rfl)
theorem dX0_odd_18 : decode cX0_odd 18 = .ok (.aload_n 0, 1) := dk_42 (dk_at dksX0_odd_0 18 rfl rfl)
theorem dX0_odd_19 : decode cX0_odd 19 = .ok (.iload_n 2, 1) := dk_28 (dk_at dksX0_odd_0 19 rfl rfl)
theorem dX0_odd_20 : decode cX0_odd 20 = .ok (.invokevirtual 162, 3) := dk_182 0 162 (dk_at dksX0_odd_0 20 rfl rfl)
theorem dX0_odd_23 : decode cX0_odd 23 = .ok (.ifCond .ne 27, 3) := dk_154 0 27 (dk_at dksX0_odd_1 0 rfl rfl)
theorem dX0_odd_26 : decode cX0_odd 26 = .ok (.aload_n 0, 1) := dk_42 (dk_at dksX0_odd_1 3 rfl rfl)
theorem dX0_odd_27 : decode cX0_odd 27 = .ok (.getfield 21, 3) := dk_180 0 21 (dk_at dksX0_odd_1 4 rfl rfl)
theorem dX0_odd_30 : decode cX0_odd 30 = .ok (.getfield 65, 3) := dk_180 0 65 (dk_at dksX0_odd_1 7 rfl rfl)
theorem dX0_odd_33 : decode cX0_odd 33 = .ok (.bipush 62, 2) := dk_16 62 (dk_at dksX0_odd_1 10 rfl rfl)
theorem dX0_odd_35 : decode cX0_odd 35 = .ok (.iload_n 2, 1) := dk_28 (dk_at dksX0_odd_1 12 rfl rfl)
theorem dX0_odd_36 : decode cX0_odd 36 = .ok (.iadd, 1) := dk_96 (dk_at dksX0_odd_1 13 rfl rfl)
theorem dX0_odd_37 : decode cX0_odd 37 = .ok (.iaload, 1) := dk_46 (dk_at dksX0_odd_1 14 rfl rfl)
theorem dX0_odd_38 : decode cX0_odd 38 = .ok (.iconst 2, 1) := dk_5 (dk_at dksX0_odd_1 15 rfl rfl)
theorem dX0_odd_39 : decode cX0_odd 39 = .ok (.irem, 1) := dk_112 (dk_at dksX0_odd_1 16 rfl rfl)
theorem dX0_odd_40 : decode cX0_odd 40 = .ok (.iconst 1, 1) := dk_4 (dk_at dksX0_odd_1 17 rfl rfl)
theorem dX0_odd_41 : decode cX0_odd 41 = .ok (.if_icmp .ne 9, 3) := dk_160 0 9 (dk_at dksX0_odd_1 18 rfl rfl)
theorem dX0_odd_44 : decode cX0_odd 44 = .ok (.iconst 1, 1) := dk_4 (dk_at dksX0_odd_1 21 rfl rfl)
theorem dX0_odd_45 : decode cX0_odd 45 = .ok (.iload_n 2, 1) := dk_28 (dk_at dksX0_odd_1 22 rfl rfl)
theorem dX0_odd_46 : decode cX0_odd 46 = .ok (.ishl, 1) := dk_120 (dk_at dksX0_odd_1 23 rfl rfl)
theorem dX0_odd_47 : decode cX0_odd 47 = .ok (.goto 4, 3) := dk_167 0 4 (dk_at dksX0_odd_2 0 rfl rfl)
theorem dX0_odd_50 : decode cX0_odd 50 = .ok (.iconst 0, 1) := dk_3 (dk_at dksX0_odd_2 3 rfl rfl)
theorem dX0_odd_51 : decode cX0_odd 51 = .ok (.ior, 1) := dk_128 (dk_at dksX0_odd_2 4 rfl rfl)
theorem dX0_odd_52 : decode cX0_odd 52 = .ok (.istore_n 1, 1) := dk_60 (dk_at dksX0_odd_2 5 rfl rfl)
theorem dX0_odd_53 : decode cX0_odd 53 = .ok (.iinc 2 1, 3) := dk_132 2 1 (dk_at dksX0_odd_2 6 rfl rfl)
theorem dX0_odd_56 : decode cX0_odd 56 = .ok (.goto (-52), 3) := dk_167 255 204 (dk_at dksX0_odd_2 9 rfl rfl)
theorem dX0_odd_59 : decode cX0_odd 59 = .ok (.iload_n 1, 1) := dk_27 (dk_at dksX0_odd_2 12 rfl rfl)
theorem dX0_odd_60 : decode cX0_odd 60 = .ok (.ireturn, 1) := dk_172 (dk_at dksX0_odd_2 13 rfl rfl)
abbrev cX0_thickest : ByteArray := prog_1_method_96_code
def yX0_thickest : MethodName := ⟨RX0, "thickest", "()I"⟩
def dkwX0_thickest_1 : List UInt8 := [180, 0, 21, 180, 0, 65, 16, 32, 27, 96, 46, 164, 0, 5, 28, 60, 132, 2, 1, 167, 255, 218, 27, 172]
abbrev dktX0_thickest_1 : List UInt8 := dkwX0_thickest_1 ++ []
def dkwX0_thickest_0 : List UInt8 := [3, 60, 4, 61, 28, 16, 30, 162, 0, 38, 42, 180, 0, 21, 180, 0, 65, 16, 32, 28, 96, 46, 42]
abbrev dktX0_thickest_0 : List UInt8 := dkwX0_thickest_0 ++ dktX0_thickest_1
theorem dksX0_thickest_0 : cX0_thickest.data.toList.drop 0 = dktX0_thickest_0 := by decide +kernel
theorem dksX0_thickest_1 : cX0_thickest.data.toList.drop 23 = dktX0_thickest_1 := dk_seg dksX0_thickest_0 23 rfl rfl
theorem dX0_thickest_0 : decode cX0_thickest 0 = .ok (.iconst 0, 1) := dk_3 (dk_at dksX0_thickest_0 0 rfl rfl)
theorem dX0_thickest_1 : decode cX0_thickest 1 = .ok (.istore_n 1, 1) := dk_60 (dk_at dksX0_thickest_0 1 rfl rfl)
theorem dX0_thickest_2 : decode cX0_thickest 2 = .ok (.iconst 1, 1) := dk_4 (dk_at dksX0_thickest_0 2 rfl rfl)
theorem dX0_thickest_3 : decode cX0_thickest 3 = .ok (.istore_n 2, 1) := dk_61 (dk_at dksX0_thickest_0 3 rfl rfl)
theorem dX0_thickest_4 : decode cX0_thickest 4 = .ok (.iload_n 2, 1) := dk_28 (dk_at dksX0_thickest_0 4 rfl rfl)
theorem dX0_thickest_5 : decode cX0_thickest 5 = .ok (.bipush 30, 2) := dk_16 30 (dk_at dksX0_thickest_0 5 rfl rfl)
theorem dX0_thickest_7 : decode cX0_thickest 7 = .ok (.if_icmp .ge 38, 3) := dk_162 0 38 (dk_at dksX0_thickest_0 7 rfl rfl)
theorem dX0_thickest_10 : decode cX0_thickest 10 = .ok (.aload_n 0, 1) := dk_42 (dk_at dksX0_thickest_0 10 rfl rfl)
theorem dX0_thickest_11 : decode cX0_thickest 11 = .ok (.getfield 21, 3) := dk_180 0 21 (dk_at dksX0_thickest_0 11 rfl rfl)
theorem dX0_thickest_14 : decode cX0_thickest 14 = .ok (.getfield 65, 3) := dk_180 0 65 (dk_at dksX0_thickest_0 14 rfl rfl)
theorem dX0_thickest_17 : decode cX0_thickest 17 = .ok (.bipush 32, 2) := dk_16 32 (dk_at dksX0_thickest_0 17 rfl rfl)
theorem dX0_thickest_19 : decode cX0_thickest 19 = .ok (.iload_n 2, 1) := dk_28 (dk_at dksX0_thickest_0 19 rfl rfl)
theorem dX0_thickest_20 : decode cX0_thickest 20 = .ok (.iadd, 1) := dk_96 (dk_at dksX0_thickest_0 20 rfl rfl)
theorem dX0_thickest_21 : decode cX0_thickest 21 = .ok (.iaload, 1) := dk_46 (dk_at dksX0_thickest_0 21 rfl rfl)
theorem dX0_thickest_22 : decode cX0_thickest 22 = .ok (.aload_n 0, 1) := dk_42 (dk_at dksX0_thickest_0 22 rfl rfl)
theorem dX0_thickest_23 : decode cX0_thickest 23 = .ok (.getfield 21, 3) := dk_180 0 21 (dk_at dksX0_thickest_1 0 rfl rfl)
theorem dX0_thickest_26 : decode cX0_thickest 26 = .ok (.getfield 65, 3) := dk_180 0 65 (dk_at dksX0_thickest_1 3 rfl rfl)
theorem dX0_thickest_29 : decode cX0_thickest 29 = .ok (.bipush 32, 2) := dk_16 32 (dk_at dksX0_thickest_1 6 rfl rfl)
theorem dX0_thickest_31 : decode cX0_thickest 31 = .ok (.iload_n 1, 1) := dk_27 (dk_at dksX0_thickest_1 8 rfl rfl)
theorem dX0_thickest_32 : decode cX0_thickest 32 = .ok (.iadd, 1) := dk_96 (dk_at dksX0_thickest_1 9 rfl rfl)
theorem dX0_thickest_33 : decode cX0_thickest 33 = .ok (.iaload, 1) := dk_46 (dk_at dksX0_thickest_1 10 rfl rfl)
theorem dX0_thickest_34 : decode cX0_thickest 34 = .ok (.if_icmp .le 5, 3) := dk_164 0 5 (dk_at dksX0_thickest_1 11 rfl rfl)
theorem dX0_thickest_37 : decode cX0_thickest 37 = .ok (.iload_n 2, 1) := dk_28 (dk_at dksX0_thickest_1 14 rfl rfl)
theorem dX0_thickest_38 : decode cX0_thickest 38 = .ok (.istore_n 1, 1) := dk_60 (dk_at dksX0_thickest_1 15 rfl rfl)
theorem dX0_thickest_39 : decode cX0_thickest 39 = .ok (.iinc 2 1, 3) := dk_132 2 1 (dk_at dksX0_thickest_1 16 rfl rfl)
theorem dX0_thickest_42 : decode cX0_thickest 42 = .ok (.goto (-38), 3) := dk_167 255 218 (dk_at dksX0_thickest_1 19 rfl rfl)
theorem dX0_thickest_45 : decode cX0_thickest 45 = .ok (.iload_n 1, 1) := dk_27 (dk_at dksX0_thickest_1 22 rfl rfl)
theorem dX0_thickest_46 : decode cX0_thickest 46 = .ok (.ireturn, 1) := dk_172 (dk_at dksX0_thickest_1 23 rfl rfl)
abbrev cX0_ledger : ByteArray := prog_1_method_97_code
def yX0_ledger : MethodName := ⟨RX0, "ledger", "(I)I"⟩
def dkwX0_ledger_3 : List UInt8 := [16, 70, 7, 29, 104, 96, 6, 96, 46, 167, 0, 4, 3, 96, 61, 132, 3, 1, 167, 255, 191, 28, 172]
abbrev dktX0_ledger_3 : List UInt8 := dkwX0_ledger_3 ++ []
def dkwX0_ledger_2 : List UInt8 := [180, 0, 65, 16, 70, 7, 29, 104, 96, 4, 96, 46, 27, 160, 0, 22, 42, 180, 0, 21, 180, 0, 65]
abbrev dktX0_ledger_2 : List UInt8 := dkwX0_ledger_2 ++ dktX0_ledger_3
def dkwX0_ledger_1 : List UInt8 := [180, 0, 21, 180, 0, 65, 16, 69, 46, 162, 0, 57, 28, 27, 2, 159, 0, 23, 42, 180, 0, 21]
abbrev dktX0_ledger_1 : List UInt8 := dkwX0_ledger_1 ++ dktX0_ledger_2
def dkwX0_ledger_0 : List UInt8 := [27, 2, 159, 0, 14, 42, 27, 182, 0, 159, 154, 0, 6, 16, 254, 172, 3, 61, 3, 62, 29, 42]
abbrev dktX0_ledger_0 : List UInt8 := dkwX0_ledger_0 ++ dktX0_ledger_1
theorem dksX0_ledger_0 : cX0_ledger.data.toList.drop 0 = dktX0_ledger_0 := by decide +kernel
theorem dksX0_ledger_1 : cX0_ledger.data.toList.drop 22 = dktX0_ledger_1 := dk_seg dksX0_ledger_0 22 rfl rfl
theorem dksX0_ledger_2 : cX0_ledger.data.toList.drop 44 = dktX0_ledger_2 := dk_seg dksX0_ledger_1 22 rfl rfl
theorem dksX0_ledger_3 : cX0_ledger.data.toList.drop 67 = dktX0_ledger_3 := dk_seg dksX0_ledger_2 23 rfl rfl
theorem dX0_ledger_0 : decode cX0_ledger 0 = .ok (.iload_n 1, 1) := dk_27 (dk_at dksX0_ledger_0 0 rfl rfl)
theorem dX0_ledger_1 : decode cX0_ledger 1 = .ok (.iconst (-1), 1) := dk_2 (dk_at dksX0_ledger_0 1 rfl rfl)
theorem dX0_ledger_2 : decode cX0_ledger 2 = .ok (.if_icmp .eq 14, 3) := dk_159 0 14 (dk_at dksX0_ledger_0 2 rfl rfl)
theorem dX0_ledger_5 : decode cX0_ledger 5 = .ok (.aload_n 0, 1) := dk_42 (dk_at dksX0_ledger_0 5 rfl rfl)
theorem dX0_ledger_6 : decode cX0_ledger 6 = .ok (.iload_n 1, 1) := dk_27 (dk_at dksX0_ledger_0 6 rfl rfl)
theorem dX0_ledger_7 : decode cX0_ledger 7 = .ok (.invokevirtual 159, 3) := dk_182 0 159 (dk_at dksX0_ledger_0 7 rfl rfl)
theorem dX0_ledger_10 : decode cX0_ledger 10 = .ok (.ifCond .ne 6, 3) := dk_154 0 6 (dk_at dksX0_ledger_0 10 rfl rfl)
theorem dX0_ledger_13 : decode cX0_ledger 13 = .ok (.bipush (-2), 2) := dk_16 254 (dk_at dksX0_ledger_0 13 rfl rfl)
theorem dX0_ledger_15 : decode cX0_ledger 15 = .ok (.ireturn, 1) := dk_172 (dk_at dksX0_ledger_0 15 rfl rfl)
theorem dX0_ledger_16 : decode cX0_ledger 16 = .ok (.iconst 0, 1) := dk_3 (dk_at dksX0_ledger_0 16 rfl rfl)
theorem dX0_ledger_17 : decode cX0_ledger 17 = .ok (.istore_n 2, 1) := dk_61 (dk_at dksX0_ledger_0 17 rfl rfl)
theorem dX0_ledger_18 : decode cX0_ledger 18 = .ok (.iconst 0, 1) := dk_3 (dk_at dksX0_ledger_0 18 rfl rfl)
theorem dX0_ledger_19 : decode cX0_ledger 19 = .ok (.istore_n 3, 1) := dk_62 (dk_at dksX0_ledger_0 19 rfl rfl)
theorem dX0_ledger_20 : decode cX0_ledger 20 = .ok (.iload_n 3, 1) := dk_29 (dk_at dksX0_ledger_0 20 rfl rfl)
theorem dX0_ledger_21 : decode cX0_ledger 21 = .ok (.aload_n 0, 1) := dk_42 (dk_at dksX0_ledger_0 21 rfl rfl)
theorem dX0_ledger_22 : decode cX0_ledger 22 = .ok (.getfield 21, 3) := dk_180 0 21 (dk_at dksX0_ledger_1 0 rfl rfl)
theorem dX0_ledger_25 : decode cX0_ledger 25 = .ok (.getfield 65, 3) := dk_180 0 65 (dk_at dksX0_ledger_1 3 rfl rfl)
theorem dX0_ledger_28 : decode cX0_ledger 28 = .ok (.bipush 69, 2) := dk_16 69 (dk_at dksX0_ledger_1 6 rfl rfl)
theorem dX0_ledger_30 : decode cX0_ledger 30 = .ok (.iaload, 1) := dk_46 (dk_at dksX0_ledger_1 8 rfl rfl)
theorem dX0_ledger_31 : decode cX0_ledger 31 = .ok (.if_icmp .ge 57, 3) := dk_162 0 57 (dk_at dksX0_ledger_1 9 rfl rfl)
theorem dX0_ledger_34 : decode cX0_ledger 34 = .ok (.iload_n 2, 1) := dk_28 (dk_at dksX0_ledger_1 12 rfl rfl)
theorem dX0_ledger_35 : decode cX0_ledger 35 = .ok (.iload_n 1, 1) := dk_27 (dk_at dksX0_ledger_1 13 rfl rfl)
theorem dX0_ledger_36 : decode cX0_ledger 36 = .ok (.iconst (-1), 1) := dk_2 (dk_at dksX0_ledger_1 14 rfl rfl)
theorem dX0_ledger_37 : decode cX0_ledger 37 = .ok (.if_icmp .eq 23, 3) := dk_159 0 23 (dk_at dksX0_ledger_1 15 rfl rfl)
theorem dX0_ledger_40 : decode cX0_ledger 40 = .ok (.aload_n 0, 1) := dk_42 (dk_at dksX0_ledger_1 18 rfl rfl)
theorem dX0_ledger_41 : decode cX0_ledger 41 = .ok (.getfield 21, 3) := dk_180 0 21 (dk_at dksX0_ledger_1 19 rfl rfl)
theorem dX0_ledger_44 : decode cX0_ledger 44 = .ok (.getfield 65, 3) := dk_180 0 65 (dk_at dksX0_ledger_2 0 rfl rfl)
theorem dX0_ledger_47 : decode cX0_ledger 47 = .ok (.bipush 70, 2) := dk_16 70 (dk_at dksX0_ledger_2 3 rfl rfl)
theorem dX0_ledger_49 : decode cX0_ledger 49 = .ok (.iconst 4, 1) := dk_7 (dk_at dksX0_ledger_2 5 rfl rfl)
theorem dX0_ledger_50 : decode cX0_ledger 50 = .ok (.iload_n 3, 1) := dk_29 (dk_at dksX0_ledger_2 6 rfl rfl)
theorem dX0_ledger_51 : decode cX0_ledger 51 = .ok (.imul, 1) := dk_104 (dk_at dksX0_ledger_2 7 rfl rfl)
theorem dX0_ledger_52 : decode cX0_ledger 52 = .ok (.iadd, 1) := dk_96 (dk_at dksX0_ledger_2 8 rfl rfl)
theorem dX0_ledger_53 : decode cX0_ledger 53 = .ok (.iconst 1, 1) := dk_4 (dk_at dksX0_ledger_2 9 rfl rfl)
theorem dX0_ledger_54 : decode cX0_ledger 54 = .ok (.iadd, 1) := dk_96 (dk_at dksX0_ledger_2 10 rfl rfl)
theorem dX0_ledger_55 : decode cX0_ledger 55 = .ok (.iaload, 1) := dk_46 (dk_at dksX0_ledger_2 11 rfl rfl)
theorem dX0_ledger_56 : decode cX0_ledger 56 = .ok (.iload_n 1, 1) := dk_27 (dk_at dksX0_ledger_2 12 rfl rfl)
theorem dX0_ledger_57 : decode cX0_ledger 57 = .ok (.if_icmp .ne 22, 3) := dk_160 0 22 (dk_at dksX0_ledger_2 13 rfl rfl)
theorem dX0_ledger_60 : decode cX0_ledger 60 = .ok (.aload_n 0, 1) := dk_42 (dk_at dksX0_ledger_2 16 rfl rfl)
theorem dX0_ledger_61 : decode cX0_ledger 61 = .ok (.getfield 21, 3) := dk_180 0 21 (dk_at dksX0_ledger_2 17 rfl rfl)
theorem dX0_ledger_64 : decode cX0_ledger 64 = .ok (.getfield 65, 3) := dk_180 0 65 (dk_at dksX0_ledger_2 20 rfl rfl)
theorem dX0_ledger_67 : decode cX0_ledger 67 = .ok (.bipush 70, 2) := dk_16 70 (dk_at dksX0_ledger_3 0 rfl rfl)
theorem dX0_ledger_69 : decode cX0_ledger 69 = .ok (.iconst 4, 1) := dk_7 (dk_at dksX0_ledger_3 2 rfl rfl)
theorem dX0_ledger_70 : decode cX0_ledger 70 = .ok (.iload_n 3, 1) := dk_29 (dk_at dksX0_ledger_3 3 rfl rfl)
theorem dX0_ledger_71 : decode cX0_ledger 71 = .ok (.imul, 1) := dk_104 (dk_at dksX0_ledger_3 4 rfl rfl)
theorem dX0_ledger_72 : decode cX0_ledger 72 = .ok (.iadd, 1) := dk_96 (dk_at dksX0_ledger_3 5 rfl rfl)
theorem dX0_ledger_73 : decode cX0_ledger 73 = .ok (.iconst 3, 1) := dk_6 (dk_at dksX0_ledger_3 6 rfl rfl)
theorem dX0_ledger_74 : decode cX0_ledger 74 = .ok (.iadd, 1) := dk_96 (dk_at dksX0_ledger_3 7 rfl rfl)
theorem dX0_ledger_75 : decode cX0_ledger 75 = .ok (.iaload, 1) := dk_46 (dk_at dksX0_ledger_3 8 rfl rfl)
theorem dX0_ledger_76 : decode cX0_ledger 76 = .ok (.goto 4, 3) := dk_167 0 4 (dk_at dksX0_ledger_3 9 rfl rfl)
theorem dX0_ledger_79 : decode cX0_ledger 79 = .ok (.iconst 0, 1) := dk_3 (dk_at dksX0_ledger_3 12 rfl rfl)
theorem dX0_ledger_80 : decode cX0_ledger 80 = .ok (.iadd, 1) := dk_96 (dk_at dksX0_ledger_3 13 rfl rfl)
theorem dX0_ledger_81 : decode cX0_ledger 81 = .ok (.istore_n 2, 1) := dk_61 (dk_at dksX0_ledger_3 14 rfl rfl)
theorem dX0_ledger_82 : decode cX0_ledger 82 = .ok (.iinc 3 1, 3) := dk_132 3 1 (dk_at dksX0_ledger_3 15 rfl rfl)
theorem dX0_ledger_85 : decode cX0_ledger 85 = .ok (.goto (-65), 3) := dk_167 255 191 (dk_at dksX0_ledger_3 18 rfl rfl)
theorem dX0_ledger_88 : decode cX0_ledger 88 = .ok (.iload_n 2, 1) := dk_28 (dk_at dksX0_ledger_3 21 rfl rfl)
theorem dX0_ledger_89 : decode cX0_ledger 89 = .ok (.ireturn, 1) := dk_172 (dk_at dksX0_ledger_3 22 rfl rfl)
abbrev cX0_image : ByteArray := prog_1_method_98_code
def yX0_image : MethodName := ⟨RX0, "image", "()I"⟩
def dkwX0_image_0 : List UInt8 := [42, 180, 0, 25, 42, 180, 0, 21, 182, 0, 54, 42, 180, 0, 21, 180, 0, 65, 3, 46, 172]
abbrev dktX0_image_0 : List UInt8 := dkwX0_image_0 ++ []
theorem dksX0_image_0 : cX0_image.data.toList.drop 0 = dktX0_image_0 := by decide +kernel
theorem dX0_image_0 : decode cX0_image 0 = .ok (.aload_n 0, 1) := dk_42 (dk_at dksX0_image_0 0 rfl rfl)
theorem dX0_image_1 : decode cX0_image 1 = .ok (.getfield 25, 3) := dk_180 0 25 (dk_at dksX0_image_0 1 rfl rfl)
theorem dX0_image_4 : decode cX0_image 4 = .ok (.aload_n 0, 1) := dk_42 (dk_at dksX0_image_0 4 rfl rfl)
theorem dX0_image_5 : decode cX0_image 5 = .ok (.getfield 21, 3) := dk_180 0 21 (dk_at dksX0_image_0 5 rfl rfl)
theorem dX0_image_8 : decode cX0_image 8 = .ok (.invokevirtual 54, 3) := dk_182 0 54 (dk_at dksX0_image_0 8 rfl rfl)
theorem dX0_image_11 : decode cX0_image 11 = .ok (.aload_n 0, 1) := dk_42 (dk_at dksX0_image_0 11 rfl rfl)
theorem dX0_image_12 : decode cX0_image 12 = .ok (.getfield 21, 3) := dk_180 0 21 (dk_at dksX0_image_0 12 rfl rfl)
theorem dX0_image_15 : decode cX0_image 15 = .ok (.getfield 65, 3) := dk_180 0 65 (dk_at dksX0_image_0 15 rfl rfl)
theorem dX0_image_18 : decode cX0_image 18 = .ok (.iconst 0, 1) := dk_3 (dk_at dksX0_image_0 18 rfl rfl)
theorem dX0_image_19 : decode cX0_image 19 = .ok (.iaload, 1) := dk_46 (dk_at dksX0_image_0 19 rfl rfl)
theorem dX0_image_20 : decode cX0_image 20 = .ok (.ireturn, 1) := dk_172 (dk_at dksX0_image_0 20 rfl rfl)
abbrev cX0_back : ByteArray := prog_1_method_99_code
def yX0_back : MethodName := ⟨RX0, "back", "()I"⟩
def dkwX0_back_0 : List UInt8 := [42, 180, 0, 21, 42, 180, 0, 25, 182, 0, 54, 42, 180, 0, 21, 180, 0, 65, 3, 46, 172]
abbrev dktX0_back_0 : List UInt8 := dkwX0_back_0 ++ []
theorem dksX0_back_0 : cX0_back.data.toList.drop 0 = dktX0_back_0 := by decide +kernel
theorem dX0_back_0 : decode cX0_back 0 = .ok (.aload_n 0, 1) := dk_42 (dk_at dksX0_back_0 0 rfl rfl)
theorem dX0_back_1 : decode cX0_back 1 = .ok (.getfield 21, 3) := dk_180 0 21 (dk_at dksX0_back_0 1 rfl rfl)
theorem dX0_back_4 : decode cX0_back 4 = .ok (.aload_n 0, 1) := dk_42 (dk_at dksX0_back_0 4 rfl rfl)
theorem dX0_back_5 : decode cX0_back 5 = .ok (.getfield 25, 3) := dk_180 0 25 (dk_at dksX0_back_0 5 rfl rfl)
theorem dX0_back_8 : decode cX0_back 8 = .ok (.invokevirtual 54, 3) := dk_182 0 54 (dk_at dksX0_back_0 8 rfl rfl)
theorem dX0_back_11 : decode cX0_back 11 = .ok (.aload_n 0, 1) := dk_42 (dk_at dksX0_back_0 11 rfl rfl)
theorem dX0_back_12 : decode cX0_back 12 = .ok (.getfield 21, 3) := dk_180 0 21 (dk_at dksX0_back_0 12 rfl rfl)
theorem dX0_back_15 : decode cX0_back 15 = .ok (.getfield 65, 3) := dk_180 0 65 (dk_at dksX0_back_0 15 rfl rfl)
theorem dX0_back_18 : decode cX0_back 18 = .ok (.iconst 0, 1) := dk_3 (dk_at dksX0_back_0 18 rfl rfl)
theorem dX0_back_19 : decode cX0_back 19 = .ok (.iaload, 1) := dk_46 (dk_at dksX0_back_0 19 rfl rfl)
theorem dX0_back_20 : decode cX0_back 20 = .ok (.ireturn, 1) := dk_172 (dk_at dksX0_back_0 20 rfl rfl)
abbrev cX0_about : ByteArray := prog_1_method_100_code
def yX0_about : MethodName := ⟨RX0, "about", "(I)I"⟩
def dkwX0_about_4 : List UInt8 := [46, 172, 42, 180, 0, 21, 180, 0, 62, 8, 46, 172, 42, 180, 0, 82, 172, 16, 254, 172]
abbrev dktX0_about_4 : List UInt8 := dkwX0_about_4 ++ []
def dkwX0_about_3 : List UInt8 := [180, 0, 62, 5, 46, 172, 42, 180, 0, 21, 180, 0, 62, 6, 46, 172, 42, 180, 0, 21, 180, 0, 62, 7]
abbrev dktX0_about_3 : List UInt8 := dkwX0_about_3 ++ dktX0_about_4
def dkwX0_about_2 : List UInt8 := [42, 180, 0, 21, 180, 0, 62, 3, 46, 172, 42, 180, 0, 21, 180, 0, 62, 4, 46, 172, 42, 180, 0, 21]
abbrev dktX0_about_2 : List UInt8 := dkwX0_about_2 ++ dktX0_about_3
def dkwX0_about_1 : List UInt8 := [170, 0, 0, 0, 0, 0, 108, 0, 0, 0, 0, 0, 0, 0, 6, 0, 0, 0, 43, 0, 0, 0, 53, 0, 0, 0, 63, 0, 0, 0, 73, 0, 0, 0, 83, 0, 0, 0, 93, 0, 0, 0, 103]
abbrev dktX0_about_1 : List UInt8 := dkwX0_about_1 ++ dktX0_about_2
def dkwX0_about_0 : List UInt8 := [27]
abbrev dktX0_about_0 : List UInt8 := dkwX0_about_0 ++ dktX0_about_1
theorem dksX0_about_0 : cX0_about.data.toList.drop 0 = dktX0_about_0 := by decide +kernel
theorem dksX0_about_1 : cX0_about.data.toList.drop 1 = dktX0_about_1 := dk_seg dksX0_about_0 1 rfl rfl
theorem dksX0_about_2 : cX0_about.data.toList.drop 44 = dktX0_about_2 := dk_seg dksX0_about_1 43 rfl rfl
theorem dksX0_about_3 : cX0_about.data.toList.drop 68 = dktX0_about_3 := dk_seg dksX0_about_2 24 rfl rfl
theorem dksX0_about_4 : cX0_about.data.toList.drop 92 = dktX0_about_4 := dk_seg dksX0_about_3 24 rfl rfl
theorem dX0_about_0 : decode cX0_about 0 = .ok (.iload_n 1, 1) := dk_27 (dk_at dksX0_about_0 0 rfl rfl)
theorem dX0_about_1 : decode cX0_about 1 = .ok (.tableswitch 108 0 6 #[43, 53, 63, 73, 83, 93, 103], 43) := by decide +kernel
theorem dX0_about_44 : decode cX0_about 44 = .ok (.aload_n 0, 1) := dk_42 (dk_at dksX0_about_2 0 rfl rfl)
theorem dX0_about_45 : decode cX0_about 45 = .ok (.getfield 21, 3) := dk_180 0 21 (dk_at dksX0_about_2 1 rfl rfl)
theorem dX0_about_48 : decode cX0_about 48 = .ok (.getfield 62, 3) := dk_180 0 62 (dk_at dksX0_about_2 4 rfl rfl)
theorem dX0_about_51 : decode cX0_about 51 = .ok (.iconst 0, 1) := dk_3 (dk_at dksX0_about_2 7 rfl rfl)
theorem dX0_about_52 : decode cX0_about 52 = .ok (.iaload, 1) := dk_46 (dk_at dksX0_about_2 8 rfl rfl)
theorem dX0_about_53 : decode cX0_about 53 = .ok (.ireturn, 1) := dk_172 (dk_at dksX0_about_2 9 rfl rfl)
theorem dX0_about_54 : decode cX0_about 54 = .ok (.aload_n 0, 1) := dk_42 (dk_at dksX0_about_2 10 rfl rfl)
theorem dX0_about_55 : decode cX0_about 55 = .ok (.getfield 21, 3) := dk_180 0 21 (dk_at dksX0_about_2 11 rfl rfl)
theorem dX0_about_58 : decode cX0_about 58 = .ok (.getfield 62, 3) := dk_180 0 62 (dk_at dksX0_about_2 14 rfl rfl)
theorem dX0_about_61 : decode cX0_about 61 = .ok (.iconst 1, 1) := dk_4 (dk_at dksX0_about_2 17 rfl rfl)
theorem dX0_about_62 : decode cX0_about 62 = .ok (.iaload, 1) := dk_46 (dk_at dksX0_about_2 18 rfl rfl)
theorem dX0_about_63 : decode cX0_about 63 = .ok (.ireturn, 1) := dk_172 (dk_at dksX0_about_2 19 rfl rfl)
theorem dX0_about_64 : decode cX0_about 64 = .ok (.aload_n 0, 1) := dk_42 (dk_at dksX0_about_2 20 rfl rfl)
theorem dX0_about_65 : decode cX0_about 65 = .ok (.getfield 21, 3) := dk_180 0 21 (dk_at dksX0_about_2 21 rfl rfl)
theorem dX0_about_68 : decode cX0_about 68 = .ok (.getfield 62, 3) := dk_180 0 62 (dk_at dksX0_about_3 0 rfl rfl)
theorem dX0_about_71 : decode cX0_about 71 = .ok (.iconst 2, 1) := dk_5 (dk_at dksX0_about_3 3 rfl rfl)
theorem dX0_about_72 : decode cX0_about 72 = .ok (.iaload, 1) := dk_46 (dk_at dksX0_about_3 4 rfl rfl)
theorem dX0_about_73 : decode cX0_about 73 = .ok (.ireturn, 1) := dk_172 (dk_at dksX0_about_3 5 rfl rfl)
theorem dX0_about_74 : decode cX0_about 74 = .ok (.aload_n 0, 1) := dk_42 (dk_at dksX0_about_3 6 rfl rfl)
theorem dX0_about_75 : decode cX0_about 75 = .ok (.getfield 21, 3) := dk_180 0 21 (dk_at dksX0_about_3 7 rfl rfl)
theorem dX0_about_78 : decode cX0_about 78 = .ok (.getfield 62, 3) := dk_180 0 62 (dk_at dksX0_about_3 10 rfl rfl)
theorem dX0_about_81 : decode cX0_about 81 = .ok (.iconst 3, 1) := dk_6 (dk_at dksX0_about_3 13 rfl rfl)
theorem dX0_about_82 : decode cX0_about 82 = .ok (.iaload, 1) := dk_46 (dk_at dksX0_about_3 14 rfl rfl)
theorem dX0_about_83 : decode cX0_about 83 = .ok (.ireturn, 1) := dk_172 (dk_at dksX0_about_3 15 rfl rfl)
theorem dX0_about_84 : decode cX0_about 84 = .ok (.aload_n 0, 1) := dk_42 (dk_at dksX0_about_3 16 rfl rfl)
theorem dX0_about_85 : decode cX0_about 85 = .ok (.getfield 21, 3) := dk_180 0 21 (dk_at dksX0_about_3 17 rfl rfl)
theorem dX0_about_88 : decode cX0_about 88 = .ok (.getfield 62, 3) := dk_180 0 62 (dk_at dksX0_about_3 20 rfl rfl)
theorem dX0_about_91 : decode cX0_about 91 = .ok (.iconst 4, 1) := dk_7 (dk_at dksX0_about_3 23 rfl rfl)
theorem dX0_about_92 : decode cX0_about 92 = .ok (.iaload, 1) := dk_46 (dk_at dksX0_about_4 0 rfl rfl)
theorem dX0_about_93 : decode cX0_about 93 = .ok (.ireturn, 1) := dk_172 (dk_at dksX0_about_4 1 rfl rfl)
theorem dX0_about_94 : decode cX0_about 94 = .ok (.aload_n 0, 1) := dk_42 (dk_at dksX0_about_4 2 rfl rfl)
theorem dX0_about_95 : decode cX0_about 95 = .ok (.getfield 21, 3) := dk_180 0 21 (dk_at dksX0_about_4 3 rfl rfl)
theorem dX0_about_98 : decode cX0_about 98 = .ok (.getfield 62, 3) := dk_180 0 62 (dk_at dksX0_about_4 6 rfl rfl)
theorem dX0_about_101 : decode cX0_about 101 = .ok (.iconst 5, 1) := dk_8 (dk_at dksX0_about_4 9 rfl rfl)
theorem dX0_about_102 : decode cX0_about 102 = .ok (.iaload, 1) := dk_46 (dk_at dksX0_about_4 10 rfl rfl)
theorem dX0_about_103 : decode cX0_about 103 = .ok (.ireturn, 1) := dk_172 (dk_at dksX0_about_4 11 rfl rfl)
theorem dX0_about_104 : decode cX0_about 104 = .ok (.aload_n 0, 1) := dk_42 (dk_at dksX0_about_4 12 rfl rfl)
theorem dX0_about_105 : decode cX0_about 105 = .ok (.getfield 82, 3) := dk_180 0 82 (dk_at dksX0_about_4 13 rfl rfl)
theorem dX0_about_108 : decode cX0_about 108 = .ok (.ireturn, 1) := dk_172 (dk_at dksX0_about_4 16 rfl rfl)
theorem dX0_about_109 : decode cX0_about 109 = .ok (.bipush (-2), 2) := dk_16 254 (dk_at dksX0_about_4 17 rfl rfl)
theorem dX0_about_111 : decode cX0_about 111 = .ok (.ireturn, 1) := dk_172 (dk_at dksX0_about_4 19 rfl rfl)
theorem q121 : (Jvm.Cond.initialized "RailingsCount") ∈ lw_all := lw_g (lw_at lw_m1 1 rfl) rfl
theorem q157 : (Jvm.Cond.instantiable "RailingsCount" (11 : Nat)) ∈ lw_all := lw_g (lw_at lw_m1 37 rfl) rfl
theorem q159 : (Jvm.Cond.instanceMethod ({ cls := "RailingsCount", name := "<init>", desc := "()V" } : Jvm.MethodName)) ∈ lw_all := lw_g (lw_at lw_m1 39 rfl) rfl
theorem q160 : (Jvm.Cond.code ({ cls := "RailingsCount", name := "<init>", desc := "()V" } : Jvm.MethodName) prog_1_method_4_code (1 : Nat) (Option.none : Option Jvm.ClassFile.FieldType)) ∈ lw_all := lw_g (lw_at lw_m1 40 rfl) rfl
theorem q161 : (Jvm.Cond.methodLink "RailingsCount" (12 : Nat) ({ cls := "java/lang/Object", name := "<init>", desc := "()V" } : Jvm.MethodName)) ∈ lw_all := lw_g (lw_at lw_m1 41 rfl) rfl
theorem q164 : (Jvm.Cond.classLink "RailingsCount" (18 : Nat) "RailingsCount$State") ∈ lw_all := lw_g (lw_at lw_m1 44 rfl) rfl
theorem q166 : (Jvm.Cond.methodLink "RailingsCount" (20 : Nat) ({ cls := "RailingsCount$State", name := "<init>", desc := "()V" } : Jvm.MethodName)) ∈ lw_all := lw_g (lw_at lw_m1 46 rfl) rfl
theorem q181 : (Jvm.Cond.fieldLinkNest "RailingsCount" (62 : Nat) "RailingsCount$State" "n" "[I" "RailingsCount") ∈ lw_tbl := lw_at lw_m1 61 rfl
theorem q183 : (Jvm.Cond.fieldLinkNest "RailingsCount" (65 : Nat) "RailingsCount$State" "row" "[I" "RailingsCount") ∈ lw_tbl := lw_at lw_m1 63 rfl
theorem q185 : (Jvm.Cond.fieldLinkNest "RailingsCount" (76 : Nat) "RailingsCount$State" "stride" "[I" "RailingsCount") ∈ lw_tbl := lw_at lw_m1 65 rfl
theorem q187 : (Jvm.Cond.fieldLinkNest "RailingsCount" (79 : Nat) "RailingsCount$State" "luck" "[I" "RailingsCount") ∈ lw_tbl := lw_at lw_m1 67 rfl
theorem q189 : (Jvm.Cond.fieldLinkNest "RailingsCount" (300 : Nat) "RailingsCount$State" "value" "[I" "RailingsCount") ∈ lw_tbl := lw_at lw_m1 69 rfl
theorem q191 : (Jvm.Cond.fieldLinkNest "RailingsCount" (316 : Nat) "RailingsCount$State" "telling" "[[I" "RailingsCount") ∈ lw_tbl := lw_at lw_m1 71 rfl
theorem q193 : (Jvm.Cond.fieldLinkNest "RailingsCount" (364 : Nat) "RailingsCount$State" "said" "[[I" "RailingsCount") ∈ lw_tbl := lw_at lw_m1 73 rfl
theorem q195 : (Jvm.Cond.fieldLinkNest "RailingsCount" (259 : Nat) "RailingsCount$State" "step" "[[I" "RailingsCount") ∈ lw_tbl := lw_at lw_m1 75 rfl
theorem q197 : (Jvm.Cond.fieldLinkNest "RailingsCount" (89 : Nat) "RailingsCount$State" "text" "[LRailingsCount$Text;" "RailingsCount") ∈ lw_tbl := lw_at lw_m1 77 rfl
theorem q218 : (Jvm.Cond.classLink "RailingsCount" (49 : Nat) "[[I") ∈ lw_all := lw_g (lw_at lw_m1 98 rfl) rfl
theorem q219 : (Jvm.Cond.methodLink "RailingsCount" (54 : Nat) ({ cls := "RailingsCount$State", name := "be", desc := "(LRailingsCount$State;)V" } : Jvm.MethodName)) ∈ lw_all := lw_g (lw_at lw_m1 99 rfl) rfl
theorem q232 : (Jvm.Cond.fieldLink "RailingsCount" (21 : Nat) "RailingsCount" "now" "LRailingsCount$State;") ∈ lw_all := lw_g (lw_at lw_m1 112 rfl) rfl
theorem q233 : (Jvm.Cond.fieldLink "RailingsCount" (25 : Nat) "RailingsCount" "image" "LRailingsCount$State;") ∈ lw_all := lw_g (lw_at lw_m1 113 rfl) rfl
theorem q234 : (Jvm.Cond.fieldLink "RailingsCount" (28 : Nat) "RailingsCount" "tape" "[B") ∈ lw_all := lw_g (lw_at lw_m1 114 rfl) rfl
theorem q235 : (Jvm.Cond.fieldLink "RailingsCount" (82 : Nat) "RailingsCount" "taped" "I") ∈ lw_all := lw_g (lw_at lw_m1 115 rfl) rfl
theorem q236 : (Jvm.Cond.fieldLink "RailingsCount" (32 : Nat) "RailingsCount" "fault" "I") ∈ lw_all := lw_g (lw_at lw_m1 116 rfl) rfl
theorem q237 : (Jvm.Cond.fieldLink "RailingsCount" (36 : Nat) "RailingsCount" "faultAt" "I") ∈ lw_all := lw_g (lw_at lw_m1 117 rfl) rfl
theorem q238 : (Jvm.Cond.fieldLink "RailingsCount" (39 : Nat) "RailingsCount" "names" "[I") ∈ lw_all := lw_g (lw_at lw_m1 118 rfl) rfl
theorem q239 : (Jvm.Cond.fieldLink "RailingsCount" (43 : Nat) "RailingsCount" "tried" "[I") ∈ lw_all := lw_g (lw_at lw_m1 119 rfl) rfl
theorem q240 : (Jvm.Cond.fieldLink "RailingsCount" (46 : Nat) "RailingsCount" "meets" "[I") ∈ lw_all := lw_g (lw_at lw_m1 120 rfl) rfl
theorem q241 : (Jvm.Cond.fieldLink "RailingsCount" (272 : Nat) "RailingsCount" "met" "I") ∈ lw_all := lw_g (lw_at lw_m1 121 rfl) rfl
theorem q242 : (Jvm.Cond.fieldLink "RailingsCount" (51 : Nat) "RailingsCount" "costs" "[[I") ∈ lw_all := lw_g (lw_at lw_m1 122 rfl) rfl
theorem q243 : (Jvm.Cond.laysFinal "RailingsCount" "RailingsCount" "now" "LRailingsCount$State;") ∈ lw_all := lw_g (lw_at lw_m1 123 rfl) rfl
theorem q244 : (Jvm.Cond.soleField "RailingsCount" "now") ∈ lw_all := lw_g (lw_at lw_m1 124 rfl) rfl
theorem q245 : (Jvm.Cond.laysFinal "RailingsCount" "RailingsCount" "image" "LRailingsCount$State;") ∈ lw_all := lw_g (lw_at lw_m1 125 rfl) rfl
theorem q246 : (Jvm.Cond.soleField "RailingsCount" "image") ∈ lw_all := lw_g (lw_at lw_m1 126 rfl) rfl
theorem q247 : (Jvm.Cond.laysFinal "RailingsCount" "RailingsCount" "tape" "[B") ∈ lw_all := lw_g (lw_at lw_m1 127 rfl) rfl
theorem q248 : (Jvm.Cond.soleField "RailingsCount" "tape") ∈ lw_all := lw_g (lw_at lw_m1 128 rfl) rfl
theorem q249 : (Jvm.Cond.lays "RailingsCount" "RailingsCount" "taped" "I") ∈ lw_all := lw_g (lw_at lw_m1 129 rfl) rfl
theorem q250 : (Jvm.Cond.soleField "RailingsCount" "taped") ∈ lw_all := lw_g (lw_at lw_m1 130 rfl) rfl
theorem q251 : (Jvm.Cond.lays "RailingsCount" "RailingsCount" "fault" "I") ∈ lw_all := lw_g (lw_at lw_m1 131 rfl) rfl
theorem q252 : (Jvm.Cond.soleField "RailingsCount" "fault") ∈ lw_all := lw_g (lw_at lw_m1 132 rfl) rfl
theorem q253 : (Jvm.Cond.lays "RailingsCount" "RailingsCount" "faultAt" "I") ∈ lw_all := lw_g (lw_at lw_m1 133 rfl) rfl
theorem q254 : (Jvm.Cond.soleField "RailingsCount" "faultAt") ∈ lw_all := lw_g (lw_at lw_m1 134 rfl) rfl
theorem q255 : (Jvm.Cond.laysFinal "RailingsCount" "RailingsCount" "names" "[I") ∈ lw_all := lw_g (lw_at lw_m1 135 rfl) rfl
theorem q256 : (Jvm.Cond.soleField "RailingsCount" "names") ∈ lw_all := lw_g (lw_at lw_m1 136 rfl) rfl
theorem q257 : (Jvm.Cond.laysFinal "RailingsCount" "RailingsCount" "tried" "[I") ∈ lw_all := lw_g (lw_at lw_m1 137 rfl) rfl
theorem q258 : (Jvm.Cond.soleField "RailingsCount" "tried") ∈ lw_all := lw_g (lw_at lw_m1 138 rfl) rfl
theorem q259 : (Jvm.Cond.laysFinal "RailingsCount" "RailingsCount" "meets" "[I") ∈ lw_all := lw_g (lw_at lw_m1 139 rfl) rfl
theorem q260 : (Jvm.Cond.soleField "RailingsCount" "meets") ∈ lw_all := lw_g (lw_at lw_m1 140 rfl) rfl
theorem q261 : (Jvm.Cond.lays "RailingsCount" "RailingsCount" "met" "I") ∈ lw_all := lw_g (lw_at lw_m1 141 rfl) rfl
theorem q262 : (Jvm.Cond.soleField "RailingsCount" "met") ∈ lw_all := lw_g (lw_at lw_m1 142 rfl) rfl
theorem q263 : (Jvm.Cond.laysFinal "RailingsCount" "RailingsCount" "costs" "[[I") ∈ lw_all := lw_g (lw_at lw_m1 143 rfl) rfl
theorem q264 : (Jvm.Cond.soleField "RailingsCount" "costs") ∈ lw_all := lw_g (lw_at lw_m1 144 rfl) rfl
theorem q265 : (Jvm.Cond.superclass "RailingsCount" "java/lang/Object") ∈ lw_all := lw_g (lw_at lw_m1 145 rfl) rfl
theorem q268 : (Jvm.Cond.instanceMethod ({ cls := "RailingsCount", name := "bar", desc := "(II)Z" } : Jvm.MethodName)) ∈ lw_all := lw_g (lw_at lw_m1 148 rfl) rfl
theorem q269 : (Jvm.Cond.selects "RailingsCount" ({ cls := "RailingsCount", name := "bar", desc := "(II)Z" } : Jvm.MethodName) ({ cls := "RailingsCount", name := "bar", desc := "(II)Z" } : Jvm.MethodName)) ∈ lw_all := lw_g (lw_at lw_m1 149 rfl) rfl
theorem q270 : (Jvm.Cond.code ({ cls := "RailingsCount", name := "bar", desc := "(II)Z" } : Jvm.MethodName) prog_1_method_8_code (3 : Nat) (Option.some Jvm.ClassFile.FieldType.boolean)) ∈ lw_all := lw_g (lw_at lw_m1 150 rfl) rfl
theorem q271 : (Jvm.Cond.methodLink "RailingsCount" (68 : Nat) ({ cls := "RailingsCount", name := "isPlace", desc := "(I)Z" } : Jvm.MethodName)) ∈ lw_all := lw_g (lw_at lw_m1 151 rfl) rfl
theorem q272 : (Jvm.Cond.static ({ cls := "RailingsCount", name := "isPlace", desc := "(I)Z" } : Jvm.MethodName)) ∈ lw_all := lw_g (lw_at lw_m1 152 rfl) rfl
theorem q273 : (Jvm.Cond.code ({ cls := "RailingsCount", name := "isPlace", desc := "(I)Z" } : Jvm.MethodName) prog_1_method_5_code (1 : Nat) (Option.some Jvm.ClassFile.FieldType.boolean)) ∈ lw_all := lw_g (lw_at lw_m1 153 rfl) rfl
theorem q274 : (Jvm.Cond.methodLink "RailingsCount" (58 : Nat) ({ cls := "RailingsCount", name := "in", desc := "(III)Z" } : Jvm.MethodName)) ∈ lw_all := lw_g (lw_at lw_m1 154 rfl) rfl
theorem q275 : (Jvm.Cond.static ({ cls := "RailingsCount", name := "in", desc := "(III)Z" } : Jvm.MethodName)) ∈ lw_all := lw_g (lw_at lw_m1 155 rfl) rfl
theorem q276 : (Jvm.Cond.code ({ cls := "RailingsCount", name := "in", desc := "(III)Z" } : Jvm.MethodName) prog_1_method_1_code (3 : Nat) (Option.some Jvm.ClassFile.FieldType.boolean)) ∈ lw_all := lw_g (lw_at lw_m1 156 rfl) rfl
theorem q277 : (Jvm.Cond.methodLink "RailingsCount" (72 : Nat) ({ cls := "RailingsCount$State", name := "tells", desc := "(II)V" } : Jvm.MethodName)) ∈ lw_all := lw_g (lw_at lw_m1 157 rfl) rfl
theorem q282 : (Jvm.Cond.instanceMethod ({ cls := "RailingsCount", name := "paint", desc := "(II)Z" } : Jvm.MethodName)) ∈ lw_all := lw_g (lw_at lw_m1 162 rfl) rfl
theorem q283 : (Jvm.Cond.selects "RailingsCount" ({ cls := "RailingsCount", name := "paint", desc := "(II)Z" } : Jvm.MethodName) ({ cls := "RailingsCount", name := "paint", desc := "(II)Z" } : Jvm.MethodName)) ∈ lw_all := lw_g (lw_at lw_m1 163 rfl) rfl
theorem q284 : (Jvm.Cond.code ({ cls := "RailingsCount", name := "paint", desc := "(II)Z" } : Jvm.MethodName) prog_1_method_9_code (3 : Nat) (Option.some Jvm.ClassFile.FieldType.boolean)) ∈ lw_all := lw_g (lw_at lw_m1 164 rfl) rfl
theorem q286 : (Jvm.Cond.instanceMethod ({ cls := "RailingsCount", name := "child", desc := "(II)I" } : Jvm.MethodName)) ∈ lw_all := lw_g (lw_at lw_m1 166 rfl) rfl
theorem q287 : (Jvm.Cond.selects "RailingsCount" ({ cls := "RailingsCount", name := "child", desc := "(II)I" } : Jvm.MethodName) ({ cls := "RailingsCount", name := "child", desc := "(II)I" } : Jvm.MethodName)) ∈ lw_all := lw_g (lw_at lw_m1 167 rfl) rfl
theorem q288 : (Jvm.Cond.code ({ cls := "RailingsCount", name := "child", desc := "(II)I" } : Jvm.MethodName) prog_1_method_10_code (4 : Nat) (Option.some Jvm.ClassFile.FieldType.int)) ∈ lw_all := lw_g (lw_at lw_m1 168 rfl) rfl
theorem q290 : (Jvm.Cond.instanceMethod ({ cls := "RailingsCount", name := "feed", desc := "(IIIII)I" } : Jvm.MethodName)) ∈ lw_all := lw_g (lw_at lw_m1 170 rfl) rfl
theorem q291 : (Jvm.Cond.selects "RailingsCount" ({ cls := "RailingsCount", name := "feed", desc := "(IIIII)I" } : Jvm.MethodName) ({ cls := "RailingsCount", name := "feed", desc := "(IIIII)I" } : Jvm.MethodName)) ∈ lw_all := lw_g (lw_at lw_m1 171 rfl) rfl
theorem q292 : (Jvm.Cond.code ({ cls := "RailingsCount", name := "feed", desc := "(IIIII)I" } : Jvm.MethodName) prog_1_method_12_code (6 : Nat) (Option.some Jvm.ClassFile.FieldType.int)) ∈ lw_all := lw_g (lw_at lw_m1 172 rfl) rfl
theorem q293 : (Jvm.Cond.methodLink "RailingsCount" (85 : Nat) ({ cls := "RailingsCount", name := "put", desc := "(I)V" } : Jvm.MethodName)) ∈ lw_all := lw_g (lw_at lw_m1 173 rfl) rfl
theorem q294 : (Jvm.Cond.privateMethod ({ cls := "RailingsCount", name := "put", desc := "(I)V" } : Jvm.MethodName)) ∈ lw_tbl := lw_at lw_m1 174 rfl
theorem q295 : (Jvm.Cond.instanceMethod ({ cls := "RailingsCount", name := "put", desc := "(I)V" } : Jvm.MethodName)) ∈ lw_all := lw_g (lw_at lw_m1 175 rfl) rfl
theorem q296 : (Jvm.Cond.code ({ cls := "RailingsCount", name := "put", desc := "(I)V" } : Jvm.MethodName) prog_1_method_11_code (3 : Nat) (Option.none : Option Jvm.ClassFile.FieldType)) ∈ lw_all := lw_g (lw_at lw_m1 176 rfl) rfl
theorem q298 : (Jvm.Cond.instanceMethod ({ cls := "RailingsCount", name := "end", desc := "(I)I" } : Jvm.MethodName)) ∈ lw_all := lw_g (lw_at lw_m1 178 rfl) rfl
theorem q299 : (Jvm.Cond.selects "RailingsCount" ({ cls := "RailingsCount", name := "end", desc := "(I)I" } : Jvm.MethodName) ({ cls := "RailingsCount", name := "end", desc := "(I)I" } : Jvm.MethodName)) ∈ lw_all := lw_g (lw_at lw_m1 179 rfl) rfl
theorem q300 : (Jvm.Cond.code ({ cls := "RailingsCount", name := "end", desc := "(I)I" } : Jvm.MethodName) prog_1_method_13_code (2 : Nat) (Option.some Jvm.ClassFile.FieldType.int)) ∈ lw_all := lw_g (lw_at lw_m1 180 rfl) rfl
theorem q302 : (Jvm.Cond.instanceMethod ({ cls := "RailingsCount", name := "text", desc := "()I" } : Jvm.MethodName)) ∈ lw_all := lw_g (lw_at lw_m1 182 rfl) rfl
theorem q303 : (Jvm.Cond.selects "RailingsCount" ({ cls := "RailingsCount", name := "text", desc := "()I" } : Jvm.MethodName) ({ cls := "RailingsCount", name := "text", desc := "()I" } : Jvm.MethodName)) ∈ lw_all := lw_g (lw_at lw_m1 183 rfl) rfl
theorem q304 : (Jvm.Cond.codeWith ({ cls := "RailingsCount", name := "text", desc := "()I" } : Jvm.MethodName) prog_1_method_14_code (5 : Nat) (Option.some Jvm.ClassFile.FieldType.int) [((30 : Nat), (62 : Nat), (70 : Nat), (102 : Nat)), ((30 : Nat), (62 : Nat), (96 : Nat), (0 : Nat)), ((70 : Nat), (89 : Nat), (96 : Nat), (0 : Nat)), ((96 : Nat), (98 : Nat), (96 : Nat), (0 : Nat))]) ∈ lw_all := lw_g (lw_at lw_m1 184 rfl) rfl
theorem q305 : (Jvm.Cond.classLink "RailingsCount" (102 : Nat) "RailingsCount$Wrong") ∈ lw_all := lw_g (lw_at lw_m1 185 rfl) rfl
theorem q306 : (Jvm.Cond.classLink "RailingsCount" (93 : Nat) "RailingsCount$Tokens") ∈ lw_all := lw_g (lw_at lw_m1 186 rfl) rfl
theorem q308 : (Jvm.Cond.methodLink "RailingsCount" (95 : Nat) ({ cls := "RailingsCount$Tokens", name := "<init>", desc := "([BI)V" } : Jvm.MethodName)) ∈ lw_all := lw_g (lw_at lw_m1 188 rfl) rfl
theorem q337 : (Jvm.Cond.methodLink "RailingsCount" (98 : Nat) ({ cls := "RailingsCount$Tokens", name := "read", desc := "()LRailingsCount$Text;" } : Jvm.MethodName)) ∈ lw_all := lw_g (lw_at lw_m1 217 rfl) rfl
theorem q377 : (Jvm.Cond.fieldLinkNest "RailingsCount" (121 : Nat) "RailingsCount$Text" "law" "[LRailingsCount$Sum;" "RailingsCount") ∈ lw_tbl := lw_at lw_m2 17 rfl
theorem q381 : (Jvm.Cond.fieldLinkNest "RailingsCount" (236 : Nat) "RailingsCount$Text" "doings" "Ljava/util/ArrayList;" "RailingsCount") ∈ lw_tbl := lw_at lw_m2 21 rfl
theorem q507 : (Jvm.Cond.fieldLinkNest "RailingsCount" (104 : Nat) "RailingsCount$Wrong" "fault" "I" "RailingsCount") ∈ lw_tbl := lw_at lw_m2 147 rfl
theorem q509 : (Jvm.Cond.fieldLinkNest "RailingsCount" (105 : Nat) "RailingsCount$Wrong" "place" "I" "RailingsCount") ∈ lw_tbl := lw_at lw_m2 149 rfl
theorem q637 : (Jvm.Cond.selects "RailingsCount" ({ cls := "java/lang/Object", name := "getClass", desc := "()Ljava/lang/Class;" } : Jvm.MethodName) ({ cls := "java/lang/Object", name := "getClass", desc := "()Ljava/lang/Class;" } : Jvm.MethodName)) ∈ lw_all := lw_g (lw_at lw_m3 37 rfl) rfl
theorem q851 : (Jvm.Cond.instanceMethod ({ cls := "RailingsCount", name := "fault", desc := "(I)I" } : Jvm.MethodName)) ∈ lw_all := lw_g (lw_at lw_m4 11 rfl) rfl
theorem q852 : (Jvm.Cond.selects "RailingsCount" ({ cls := "RailingsCount", name := "fault", desc := "(I)I" } : Jvm.MethodName) ({ cls := "RailingsCount", name := "fault", desc := "(I)I" } : Jvm.MethodName)) ∈ lw_all := lw_g (lw_at lw_m4 12 rfl) rfl
theorem q853 : (Jvm.Cond.code ({ cls := "RailingsCount", name := "fault", desc := "(I)I" } : Jvm.MethodName) prog_1_method_15_code (2 : Nat) (Option.some Jvm.ClassFile.FieldType.int)) ∈ lw_all := lw_g (lw_at lw_m4 13 rfl) rfl
theorem q855 : (Jvm.Cond.instanceMethod ({ cls := "RailingsCount", name := "by", desc := "(I)Z" } : Jvm.MethodName)) ∈ lw_all := lw_g (lw_at lw_m4 15 rfl) rfl
theorem q856 : (Jvm.Cond.selects "RailingsCount" ({ cls := "RailingsCount", name := "by", desc := "(I)Z" } : Jvm.MethodName) ({ cls := "RailingsCount", name := "by", desc := "(I)Z" } : Jvm.MethodName)) ∈ lw_all := lw_g (lw_at lw_m4 16 rfl) rfl
theorem q857 : (Jvm.Cond.code ({ cls := "RailingsCount", name := "by", desc := "(I)Z" } : Jvm.MethodName) prog_1_method_17_code (2 : Nat) (Option.some Jvm.ClassFile.FieldType.boolean)) ∈ lw_all := lw_g (lw_at lw_m4 17 rfl) rfl
theorem q858 : (Jvm.Cond.methodLink "RailingsCount" (108 : Nat) ({ cls := "RailingsCount", name := "isText", desc := "(I)Z" } : Jvm.MethodName)) ∈ lw_all := lw_g (lw_at lw_m4 18 rfl) rfl
theorem q859 : (Jvm.Cond.privateMethod ({ cls := "RailingsCount", name := "isText", desc := "(I)Z" } : Jvm.MethodName)) ∈ lw_tbl := lw_at lw_m4 19 rfl
theorem q860 : (Jvm.Cond.instanceMethod ({ cls := "RailingsCount", name := "isText", desc := "(I)Z" } : Jvm.MethodName)) ∈ lw_all := lw_g (lw_at lw_m4 20 rfl) rfl
theorem q861 : (Jvm.Cond.code ({ cls := "RailingsCount", name := "isText", desc := "(I)Z" } : Jvm.MethodName) prog_1_method_16_code (2 : Nat) (Option.some Jvm.ClassFile.FieldType.boolean)) ∈ lw_all := lw_g (lw_at lw_m4 21 rfl) rfl
theorem q863 : (Jvm.Cond.instanceMethod ({ cls := "RailingsCount", name := "run", desc := "(II)I" } : Jvm.MethodName)) ∈ lw_all := lw_g (lw_at lw_m4 23 rfl) rfl
theorem q864 : (Jvm.Cond.selects "RailingsCount" ({ cls := "RailingsCount", name := "run", desc := "(II)I" } : Jvm.MethodName) ({ cls := "RailingsCount", name := "run", desc := "(II)I" } : Jvm.MethodName)) ∈ lw_all := lw_g (lw_at lw_m4 24 rfl) rfl
theorem q865 : (Jvm.Cond.code ({ cls := "RailingsCount", name := "run", desc := "(II)I" } : Jvm.MethodName) prog_1_method_27_code (3 : Nat) (Option.some Jvm.ClassFile.FieldType.int)) ∈ lw_all := lw_g (lw_at lw_m4 25 rfl) rfl
theorem q866 : (Jvm.Cond.methodLink "RailingsCount" (162 : Nat) ({ cls := "RailingsCount", name := "canRun", desc := "(I)Z" } : Jvm.MethodName)) ∈ lw_all := lw_g (lw_at lw_m4 26 rfl) rfl
theorem q867 : (Jvm.Cond.privateMethod ({ cls := "RailingsCount", name := "canRun", desc := "(I)Z" } : Jvm.MethodName)) ∈ lw_tbl := lw_at lw_m4 27 rfl
theorem q868 : (Jvm.Cond.instanceMethod ({ cls := "RailingsCount", name := "canRun", desc := "(I)Z" } : Jvm.MethodName)) ∈ lw_all := lw_g (lw_at lw_m4 28 rfl) rfl
theorem q869 : (Jvm.Cond.code ({ cls := "RailingsCount", name := "canRun", desc := "(I)Z" } : Jvm.MethodName) prog_1_method_26_code (2 : Nat) (Option.some Jvm.ClassFile.FieldType.boolean)) ∈ lw_all := lw_g (lw_at lw_m4 29 rfl) rfl
theorem q870 : (Jvm.Cond.methodLink "RailingsCount" (159 : Nat) ({ cls := "RailingsCount", name := "isChild", desc := "(I)Z" } : Jvm.MethodName)) ∈ lw_all := lw_g (lw_at lw_m4 30 rfl) rfl
theorem q871 : (Jvm.Cond.privateMethod ({ cls := "RailingsCount", name := "isChild", desc := "(I)Z" } : Jvm.MethodName)) ∈ lw_tbl := lw_at lw_m4 31 rfl
theorem q872 : (Jvm.Cond.instanceMethod ({ cls := "RailingsCount", name := "isChild", desc := "(I)Z" } : Jvm.MethodName)) ∈ lw_all := lw_g (lw_at lw_m4 32 rfl) rfl
theorem q873 : (Jvm.Cond.code ({ cls := "RailingsCount", name := "isChild", desc := "(I)Z" } : Jvm.MethodName) prog_1_method_6_code (2 : Nat) (Option.some Jvm.ClassFile.FieldType.boolean)) ∈ lw_all := lw_g (lw_at lw_m4 33 rfl) rfl
theorem q874 : (Jvm.Cond.methodLink "RailingsCount" (165 : Nat) ({ cls := "RailingsCount$State", name := "keeps", desc := "()V" } : Jvm.MethodName)) ∈ lw_all := lw_g (lw_at lw_m4 34 rfl) rfl
theorem q878 : (Jvm.Cond.methodLink "RailingsCount" (168 : Nat) ({ cls := "RailingsCount", name := "runs", desc := "([III)I" } : Jvm.MethodName)) ∈ lw_all := lw_g (lw_at lw_m4 38 rfl) rfl
theorem q879 : (Jvm.Cond.privateMethod ({ cls := "RailingsCount", name := "runs", desc := "([III)I" } : Jvm.MethodName)) ∈ lw_tbl := lw_at lw_m4 39 rfl
theorem q880 : (Jvm.Cond.instanceMethod ({ cls := "RailingsCount", name := "runs", desc := "([III)I" } : Jvm.MethodName)) ∈ lw_all := lw_g (lw_at lw_m4 40 rfl) rfl
theorem q881 : (Jvm.Cond.code ({ cls := "RailingsCount", name := "runs", desc := "([III)I" } : Jvm.MethodName) prog_1_method_25_code (8 : Nat) (Option.some Jvm.ClassFile.FieldType.int)) ∈ lw_all := lw_g (lw_at lw_m4 41 rfl) rfl
theorem q882 : (Jvm.Cond.methodLink "RailingsCount" (147 : Nat) ({ cls := "RailingsCount", name := "drawn", desc := "([II)I" } : Jvm.MethodName)) ∈ lw_all := lw_g (lw_at lw_m4 42 rfl) rfl
theorem q883 : (Jvm.Cond.static ({ cls := "RailingsCount", name := "drawn", desc := "([II)I" } : Jvm.MethodName)) ∈ lw_all := lw_g (lw_at lw_m4 43 rfl) rfl
theorem q884 : (Jvm.Cond.code ({ cls := "RailingsCount", name := "drawn", desc := "([II)I" } : Jvm.MethodName) prog_1_method_23_code (3 : Nat) (Option.some Jvm.ClassFile.FieldType.int)) ∈ lw_all := lw_g (lw_at lw_m4 44 rfl) rfl
theorem q885 : (Jvm.Cond.methodLink "RailingsCount" (144 : Nat) ({ cls := "RailingsCount", name := "rules", desc := "()LRailingsCount$Text;" } : Jvm.MethodName)) ∈ lw_all := lw_g (lw_at lw_m4 45 rfl) rfl
theorem q886 : (Jvm.Cond.privateMethod ({ cls := "RailingsCount", name := "rules", desc := "()LRailingsCount$Text;" } : Jvm.MethodName)) ∈ lw_tbl := lw_at lw_m4 46 rfl
theorem q887 : (Jvm.Cond.instanceMethod ({ cls := "RailingsCount", name := "rules", desc := "()LRailingsCount$Text;" } : Jvm.MethodName)) ∈ lw_all := lw_g (lw_at lw_m4 47 rfl) rfl
theorem q888 : (Jvm.Cond.code ({ cls := "RailingsCount", name := "rules", desc := "()LRailingsCount$Text;" } : Jvm.MethodName) prog_1_method_18_code (1 : Nat) (Option.some (Jvm.ClassFile.FieldType.object "RailingsCount$Text"))) ∈ lw_all := lw_g (lw_at lw_m4 48 rfl) rfl
theorem q889 : (Jvm.Cond.fieldLink "RailingsCount" (111 : Nat) "RailingsCount" "NOTHING" "LRailingsCount$Text;") ∈ lw_all := lw_g (lw_at lw_m4 49 rfl) rfl
theorem q890 : (Jvm.Cond.laysStatic "RailingsCount" "NOTHING" "LRailingsCount$Text;") ∈ lw_tbl := lw_at lw_m4 50 rfl
theorem q891 : (Jvm.Cond.methodLink "RailingsCount" (151 : Nat) ({ cls := "RailingsCount", name := "catchesBy", desc := "(LRailingsCount$Text;[IIII)I" } : Jvm.MethodName)) ∈ lw_all := lw_g (lw_at lw_m4 51 rfl) rfl
theorem q892 : (Jvm.Cond.privateMethod ({ cls := "RailingsCount", name := "catchesBy", desc := "(LRailingsCount$Text;[IIII)I" } : Jvm.MethodName)) ∈ lw_tbl := lw_at lw_m4 52 rfl
theorem q893 : (Jvm.Cond.instanceMethod ({ cls := "RailingsCount", name := "catchesBy", desc := "(LRailingsCount$Text;[IIII)I" } : Jvm.MethodName)) ∈ lw_all := lw_g (lw_at lw_m4 53 rfl) rfl
theorem q894 : (Jvm.Cond.code ({ cls := "RailingsCount", name := "catchesBy", desc := "(LRailingsCount$Text;[IIII)I" } : Jvm.MethodName) prog_1_method_21_code (6 : Nat) (Option.some Jvm.ClassFile.FieldType.int)) ∈ lw_all := lw_g (lw_at lw_m4 54 rfl) rfl
theorem q895 : (Jvm.Cond.methodLink "RailingsCount" (137 : Nat) ({ cls := "RailingsCount", name := "namesOf", desc := "([II)V" } : Jvm.MethodName)) ∈ lw_all := lw_g (lw_at lw_m4 55 rfl) rfl
theorem q896 : (Jvm.Cond.privateMethod ({ cls := "RailingsCount", name := "namesOf", desc := "([II)V" } : Jvm.MethodName)) ∈ lw_tbl := lw_at lw_m4 56 rfl
theorem q897 : (Jvm.Cond.instanceMethod ({ cls := "RailingsCount", name := "namesOf", desc := "([II)V" } : Jvm.MethodName)) ∈ lw_all := lw_g (lw_at lw_m4 57 rfl) rfl
theorem q898 : (Jvm.Cond.code ({ cls := "RailingsCount", name := "namesOf", desc := "([II)V" } : Jvm.MethodName) prog_1_method_19_code (3 : Nat) (Option.none : Option Jvm.ClassFile.FieldType)) ∈ lw_all := lw_g (lw_at lw_m4 58 rfl) rfl
theorem q899 : (Jvm.Cond.methodLink "RailingsCount" (115 : Nat) ({ cls := "java/lang/System", name := "arraycopy", desc := "(Ljava/lang/Object;ILjava/lang/Object;II)V" } : Jvm.MethodName)) ∈ lw_all := lw_g (lw_at lw_m4 59 rfl) rfl
theorem q900 : (Jvm.Cond.methodLink "RailingsCount" (141 : Nat) ({ cls := "RailingsCount", name := "law", desc := "(LRailingsCount$Text;II)I" } : Jvm.MethodName)) ∈ lw_all := lw_g (lw_at lw_m4 60 rfl) rfl
theorem q901 : (Jvm.Cond.privateMethod ({ cls := "RailingsCount", name := "law", desc := "(LRailingsCount$Text;II)I" } : Jvm.MethodName)) ∈ lw_tbl := lw_at lw_m4 61 rfl
theorem q902 : (Jvm.Cond.instanceMethod ({ cls := "RailingsCount", name := "law", desc := "(LRailingsCount$Text;II)I" } : Jvm.MethodName)) ∈ lw_all := lw_g (lw_at lw_m4 62 rfl) rfl
theorem q903 : (Jvm.Cond.code ({ cls := "RailingsCount", name := "law", desc := "(LRailingsCount$Text;II)I" } : Jvm.MethodName) prog_1_method_20_code (4 : Nat) (Option.some Jvm.ClassFile.FieldType.int)) ∈ lw_all := lw_g (lw_at lw_m4 63 rfl) rfl
theorem q904 : (Jvm.Cond.interfaceEntry "RailingsCount" (127 : Nat)) ∈ lw_tbl := lw_at lw_m4 64 rfl
theorem q905 : (Jvm.Cond.methodLink "RailingsCount" (127 : Nat) ({ cls := "RailingsCount$Sum", name := "of", desc := "([I)J" } : Jvm.MethodName)) ∈ lw_all := lw_g (lw_at lw_m4 65 rfl) rfl
theorem q1008 : (Jvm.Cond.methodLink "RailingsCount" (133 : Nat) ({ cls := "RailingsCount", name := "held", desc := "(JII)I" } : Jvm.MethodName)) ∈ lw_all := lw_g (lw_at lw_m4 168 rfl) rfl
theorem q1009 : (Jvm.Cond.static ({ cls := "RailingsCount", name := "held", desc := "(JII)I" } : Jvm.MethodName)) ∈ lw_all := lw_g (lw_at lw_m4 169 rfl) rfl
theorem q1010 : (Jvm.Cond.code ({ cls := "RailingsCount", name := "held", desc := "(JII)I" } : Jvm.MethodName) prog_1_method_3_code (4 : Nat) (Option.some Jvm.ClassFile.FieldType.int)) ∈ lw_all := lw_g (lw_at lw_m4 170 rfl) rfl
theorem q1011 : (Jvm.Cond.methodLink "RailingsCount" (3 : Nat) ({ cls := "java/lang/Math", name := "min", desc := "(JJ)J" } : Jvm.MethodName)) ∈ lw_all := lw_g (lw_at lw_m4 171 rfl) rfl
theorem q1012 : (Jvm.Cond.methodLink "RailingsCount" (9 : Nat) ({ cls := "java/lang/Math", name := "max", desc := "(JJ)J" } : Jvm.MethodName)) ∈ lw_all := lw_g (lw_at lw_m4 172 rfl) rfl
theorem q1013 : (Jvm.Cond.methodLink "RailingsCount" (155 : Nat) ({ cls := "RailingsCount", name := "writes", desc := "([IIII)V" } : Jvm.MethodName)) ∈ lw_all := lw_g (lw_at lw_m4 173 rfl) rfl
theorem q1014 : (Jvm.Cond.static ({ cls := "RailingsCount", name := "writes", desc := "([IIII)V" } : Jvm.MethodName)) ∈ lw_all := lw_g (lw_at lw_m4 174 rfl) rfl
theorem q1015 : (Jvm.Cond.code ({ cls := "RailingsCount", name := "writes", desc := "([IIII)V" } : Jvm.MethodName) prog_1_method_24_code (5 : Nat) (Option.none : Option Jvm.ClassFile.FieldType)) ∈ lw_all := lw_g (lw_at lw_m4 175 rfl) rfl
theorem q1017 : (Jvm.Cond.instanceMethod ({ cls := "RailingsCount", name := "cut", desc := "(I)Z" } : Jvm.MethodName)) ∈ lw_all := lw_g (lw_at lw_m4 177 rfl) rfl
theorem q1018 : (Jvm.Cond.selects "RailingsCount" ({ cls := "RailingsCount", name := "cut", desc := "(I)Z" } : Jvm.MethodName) ({ cls := "RailingsCount", name := "cut", desc := "(I)Z" } : Jvm.MethodName)) ∈ lw_all := lw_g (lw_at lw_m4 178 rfl) rfl
theorem q1019 : (Jvm.Cond.code ({ cls := "RailingsCount", name := "cut", desc := "(I)Z" } : Jvm.MethodName) prog_1_method_31_code (2 : Nat) (Option.some Jvm.ClassFile.FieldType.boolean)) ∈ lw_all := lw_g (lw_at lw_m4 179 rfl) rfl
theorem q1020 : (Jvm.Cond.methodLink "RailingsCount" (176 : Nat) ({ cls := "RailingsCount", name := "isKind", desc := "(II)Z" } : Jvm.MethodName)) ∈ lw_all := lw_g (lw_at lw_m4 180 rfl) rfl
theorem q1021 : (Jvm.Cond.privateMethod ({ cls := "RailingsCount", name := "isKind", desc := "(II)Z" } : Jvm.MethodName)) ∈ lw_tbl := lw_at lw_m4 181 rfl
theorem q1022 : (Jvm.Cond.instanceMethod ({ cls := "RailingsCount", name := "isKind", desc := "(II)Z" } : Jvm.MethodName)) ∈ lw_all := lw_g (lw_at lw_m4 182 rfl) rfl
theorem q1023 : (Jvm.Cond.code ({ cls := "RailingsCount", name := "isKind", desc := "(II)Z" } : Jvm.MethodName) prog_1_method_28_code (3 : Nat) (Option.some Jvm.ClassFile.FieldType.boolean)) ∈ lw_all := lw_g (lw_at lw_m4 183 rfl) rfl
theorem q1024 : (Jvm.Cond.methodLink "RailingsCount" (172 : Nat) ({ cls := "RailingsCount", name := "kindAt", desc := "(I)I" } : Jvm.MethodName)) ∈ lw_all := lw_g (lw_at lw_m4 184 rfl) rfl
theorem q1025 : (Jvm.Cond.privateMethod ({ cls := "RailingsCount", name := "kindAt", desc := "(I)I" } : Jvm.MethodName)) ∈ lw_tbl := lw_at lw_m4 185 rfl
theorem q1026 : (Jvm.Cond.instanceMethod ({ cls := "RailingsCount", name := "kindAt", desc := "(I)I" } : Jvm.MethodName)) ∈ lw_all := lw_g (lw_at lw_m4 186 rfl) rfl
theorem q1027 : (Jvm.Cond.code ({ cls := "RailingsCount", name := "kindAt", desc := "(I)I" } : Jvm.MethodName) prog_1_method_7_code (2 : Nat) (Option.some Jvm.ClassFile.FieldType.int)) ∈ lw_all := lw_g (lw_at lw_m4 187 rfl) rfl
theorem q1028 : (Jvm.Cond.methodLink "RailingsCount" (180 : Nat) ({ cls := "RailingsCount", name := "cuts", desc := "(I)V" } : Jvm.MethodName)) ∈ lw_all := lw_g (lw_at lw_m4 188 rfl) rfl
theorem q1029 : (Jvm.Cond.privateMethod ({ cls := "RailingsCount", name := "cuts", desc := "(I)V" } : Jvm.MethodName)) ∈ lw_tbl := lw_at lw_m4 189 rfl
theorem q1030 : (Jvm.Cond.instanceMethod ({ cls := "RailingsCount", name := "cuts", desc := "(I)V" } : Jvm.MethodName)) ∈ lw_all := lw_g (lw_at lw_m4 190 rfl) rfl
theorem q1031 : (Jvm.Cond.code ({ cls := "RailingsCount", name := "cuts", desc := "(I)V" } : Jvm.MethodName) prog_1_method_29_code (2 : Nat) (Option.none : Option Jvm.ClassFile.FieldType)) ∈ lw_all := lw_g (lw_at lw_m4 191 rfl) rfl
theorem q1033 : (Jvm.Cond.instanceMethod ({ cls := "RailingsCount", name := "add", desc := "(I)Z" } : Jvm.MethodName)) ∈ lw_all := lw_g (lw_at lw_m4 193 rfl) rfl
theorem q1034 : (Jvm.Cond.selects "RailingsCount" ({ cls := "RailingsCount", name := "add", desc := "(I)Z" } : Jvm.MethodName) ({ cls := "RailingsCount", name := "add", desc := "(I)Z" } : Jvm.MethodName)) ∈ lw_all := lw_g (lw_at lw_m4 194 rfl) rfl
theorem q1035 : (Jvm.Cond.code ({ cls := "RailingsCount", name := "add", desc := "(I)Z" } : Jvm.MethodName) prog_1_method_32_code (2 : Nat) (Option.some Jvm.ClassFile.FieldType.boolean)) ∈ lw_all := lw_g (lw_at lw_m4 195 rfl) rfl
theorem q1036 : (Jvm.Cond.methodLink "RailingsCount" (183 : Nat) ({ cls := "RailingsCount", name := "adds", desc := "(I)V" } : Jvm.MethodName)) ∈ lw_all := lw_g (lw_at lw_m4 196 rfl) rfl
theorem q1037 : (Jvm.Cond.privateMethod ({ cls := "RailingsCount", name := "adds", desc := "(I)V" } : Jvm.MethodName)) ∈ lw_tbl := lw_at lw_m4 197 rfl
theorem q1038 : (Jvm.Cond.instanceMethod ({ cls := "RailingsCount", name := "adds", desc := "(I)V" } : Jvm.MethodName)) ∈ lw_all := lw_g (lw_at lw_m4 198 rfl) rfl
theorem q1039 : (Jvm.Cond.code ({ cls := "RailingsCount", name := "adds", desc := "(I)V" } : Jvm.MethodName) prog_1_method_30_code (2 : Nat) (Option.none : Option Jvm.ClassFile.FieldType)) ∈ lw_all := lw_g (lw_at lw_m4 199 rfl) rfl
theorem q1041 : (Jvm.Cond.instanceMethod ({ cls := "RailingsCount", name := "year", desc := "(I)I" } : Jvm.MethodName)) ∈ lw_all := lw_g (lw_at lw_m4 201 rfl) rfl
theorem q1042 : (Jvm.Cond.selects "RailingsCount" ({ cls := "RailingsCount", name := "year", desc := "(I)I" } : Jvm.MethodName) ({ cls := "RailingsCount", name := "year", desc := "(I)I" } : Jvm.MethodName)) ∈ lw_all := lw_g (lw_at lw_m4 202 rfl) rfl
theorem q1043 : (Jvm.Cond.code ({ cls := "RailingsCount", name := "year", desc := "(I)I" } : Jvm.MethodName) prog_1_method_35_code (4 : Nat) (Option.some Jvm.ClassFile.FieldType.int)) ∈ lw_all := lw_g (lw_at lw_m4 203 rfl) rfl
theorem q1044 : (Jvm.Cond.methodLink "RailingsCount" (196 : Nat) ({ cls := "RailingsCount", name := "passes", desc := "([I)I" } : Jvm.MethodName)) ∈ lw_all := lw_g (lw_at lw_m4 204 rfl) rfl
theorem q1045 : (Jvm.Cond.privateMethod ({ cls := "RailingsCount", name := "passes", desc := "([I)I" } : Jvm.MethodName)) ∈ lw_tbl := lw_at lw_m4 205 rfl
theorem q1046 : (Jvm.Cond.instanceMethod ({ cls := "RailingsCount", name := "passes", desc := "([I)I" } : Jvm.MethodName)) ∈ lw_all := lw_g (lw_at lw_m4 206 rfl) rfl
theorem q1047 : (Jvm.Cond.code ({ cls := "RailingsCount", name := "passes", desc := "([I)I" } : Jvm.MethodName) prog_1_method_34_code (5 : Nat) (Option.some Jvm.ClassFile.FieldType.int)) ∈ lw_all := lw_g (lw_at lw_m4 207 rfl) rfl
theorem q1048 : (Jvm.Cond.methodLink "RailingsCount" (192 : Nat) ({ cls := "RailingsCount", name := "thickens", desc := "([I)V" } : Jvm.MethodName)) ∈ lw_all := lw_g (lw_at lw_m4 208 rfl) rfl
theorem q1049 : (Jvm.Cond.privateMethod ({ cls := "RailingsCount", name := "thickens", desc := "([I)V" } : Jvm.MethodName)) ∈ lw_tbl := lw_at lw_m4 209 rfl
theorem q1050 : (Jvm.Cond.instanceMethod ({ cls := "RailingsCount", name := "thickens", desc := "([I)V" } : Jvm.MethodName)) ∈ lw_all := lw_g (lw_at lw_m4 210 rfl) rfl
theorem q1051 : (Jvm.Cond.code ({ cls := "RailingsCount", name := "thickens", desc := "([I)V" } : Jvm.MethodName) prog_1_method_33_code (3 : Nat) (Option.none : Option Jvm.ClassFile.FieldType)) ∈ lw_all := lw_g (lw_at lw_m4 211 rfl) rfl
theorem q1052 : (Jvm.Cond.methodLink "RailingsCount" (186 : Nat) ({ cls := "RailingsCount", name := "paintsOf", desc := "([II)I" } : Jvm.MethodName)) ∈ lw_all := lw_g (lw_at lw_m4 212 rfl) rfl
theorem q1053 : (Jvm.Cond.privateMethod ({ cls := "RailingsCount", name := "paintsOf", desc := "([II)I" } : Jvm.MethodName)) ∈ lw_tbl := lw_at lw_m4 213 rfl
theorem q1054 : (Jvm.Cond.instanceMethod ({ cls := "RailingsCount", name := "paintsOf", desc := "([II)I" } : Jvm.MethodName)) ∈ lw_all := lw_g (lw_at lw_m4 214 rfl) rfl
theorem q1055 : (Jvm.Cond.code ({ cls := "RailingsCount", name := "paintsOf", desc := "([II)I" } : Jvm.MethodName) prog_1_method_22_code (3 : Nat) (Option.some Jvm.ClassFile.FieldType.int)) ∈ lw_all := lw_g (lw_at lw_m4 215 rfl) rfl
theorem q1056 : (Jvm.Cond.methodLink "RailingsCount" (189 : Nat) ({ cls := "java/lang/Math", name := "min", desc := "(II)I" } : Jvm.MethodName)) ∈ lw_all := lw_g (lw_at lw_m4 216 rfl) rfl
theorem q1058 : (Jvm.Cond.instanceMethod ({ cls := "RailingsCount", name := "played", desc := "(I)I" } : Jvm.MethodName)) ∈ lw_all := lw_g (lw_at lw_m4 218 rfl) rfl
theorem q1059 : (Jvm.Cond.selects "RailingsCount" ({ cls := "RailingsCount", name := "played", desc := "(I)I" } : Jvm.MethodName) ({ cls := "RailingsCount", name := "played", desc := "(I)I" } : Jvm.MethodName)) ∈ lw_all := lw_g (lw_at lw_m4 219 rfl) rfl
theorem q1060 : (Jvm.Cond.code ({ cls := "RailingsCount", name := "played", desc := "(I)I" } : Jvm.MethodName) prog_1_method_38_code (4 : Nat) (Option.some Jvm.ClassFile.FieldType.int)) ∈ lw_all := lw_g (lw_at lw_m4 220 rfl) rfl
theorem q1061 : (Jvm.Cond.methodLink "RailingsCount" (240 : Nat) ({ cls := "java/util/ArrayList", name := "size", desc := "()I" } : Jvm.MethodName)) ∈ lw_all := lw_g (lw_at lw_m4 221 rfl) rfl
theorem q1062 : (Jvm.Cond.methodLink "RailingsCount" (245 : Nat) ({ cls := "java/util/ArrayList", name := "get", desc := "(I)Ljava/lang/Object;" } : Jvm.MethodName)) ∈ lw_all := lw_g (lw_at lw_m4 222 rfl) rfl
theorem q1063 : (Jvm.Cond.classLink "RailingsCount" (204 : Nat) "RailingsCount$Doing") ∈ lw_all := lw_g (lw_at lw_m4 223 rfl) rfl
theorem q1064 : (Jvm.Cond.methodLink "RailingsCount" (249 : Nat) ({ cls := "RailingsCount", name := "does", desc := "(LRailingsCount$Doing;)Z" } : Jvm.MethodName)) ∈ lw_all := lw_g (lw_at lw_m4 224 rfl) rfl
theorem q1065 : (Jvm.Cond.privateMethod ({ cls := "RailingsCount", name := "does", desc := "(LRailingsCount$Doing;)Z" } : Jvm.MethodName)) ∈ lw_tbl := lw_at lw_m4 225 rfl
theorem q1066 : (Jvm.Cond.instanceMethod ({ cls := "RailingsCount", name := "does", desc := "(LRailingsCount$Doing;)Z" } : Jvm.MethodName)) ∈ lw_all := lw_g (lw_at lw_m4 226 rfl) rfl
theorem q1067 : (Jvm.Cond.code ({ cls := "RailingsCount", name := "does", desc := "(LRailingsCount$Doing;)Z" } : Jvm.MethodName) prog_1_method_37_code (2 : Nat) (Option.some Jvm.ClassFile.FieldType.boolean)) ∈ lw_all := lw_g (lw_at lw_m4 227 rfl) rfl
theorem q1068 : (Jvm.Cond.methodLink "RailingsCount" (203 : Nat) ({ cls := "RailingsCount$Doing", name := "sort", desc := "()I" } : Jvm.MethodName)) ∈ lw_all := lw_g (lw_at lw_m4 228 rfl) rfl
theorem q1072 : (Jvm.Cond.methodLink "RailingsCount" (209 : Nat) ({ cls := "RailingsCount$Doing", name := "a", desc := "()I" } : Jvm.MethodName)) ∈ lw_all := lw_g (lw_at lw_m4 232 rfl) rfl
theorem q1076 : (Jvm.Cond.methodLink "RailingsCount" (212 : Nat) ({ cls := "RailingsCount$Doing", name := "b", desc := "()I" } : Jvm.MethodName)) ∈ lw_all := lw_g (lw_at lw_m4 236 rfl) rfl
theorem q1080 : (Jvm.Cond.methodLink "RailingsCount" (215 : Nat) ({ cls := "RailingsCount", name := "bar", desc := "(II)Z" } : Jvm.MethodName)) ∈ lw_all := lw_g (lw_at lw_m5 0 rfl) rfl
theorem q1081 : (Jvm.Cond.methodLink "RailingsCount" (218 : Nat) ({ cls := "RailingsCount", name := "paint", desc := "(II)Z" } : Jvm.MethodName)) ∈ lw_all := lw_g (lw_at lw_m5 1 rfl) rfl
theorem q1082 : (Jvm.Cond.methodLink "RailingsCount" (221 : Nat) ({ cls := "RailingsCount", name := "child", desc := "(II)I" } : Jvm.MethodName)) ∈ lw_all := lw_g (lw_at lw_m5 2 rfl) rfl
theorem q1083 : (Jvm.Cond.methodLink "RailingsCount" (224 : Nat) ({ cls := "RailingsCount", name := "run", desc := "(II)I" } : Jvm.MethodName)) ∈ lw_all := lw_g (lw_at lw_m5 3 rfl) rfl
theorem q1084 : (Jvm.Cond.methodLink "RailingsCount" (227 : Nat) ({ cls := "RailingsCount", name := "cut", desc := "(I)Z" } : Jvm.MethodName)) ∈ lw_all := lw_g (lw_at lw_m5 4 rfl) rfl
theorem q1085 : (Jvm.Cond.methodLink "RailingsCount" (230 : Nat) ({ cls := "RailingsCount", name := "add", desc := "(I)Z" } : Jvm.MethodName)) ∈ lw_all := lw_g (lw_at lw_m5 5 rfl) rfl
theorem q1086 : (Jvm.Cond.methodLink "RailingsCount" (233 : Nat) ({ cls := "RailingsCount", name := "passesAll", desc := "(I)Z" } : Jvm.MethodName)) ∈ lw_all := lw_g (lw_at lw_m5 6 rfl) rfl
theorem q1087 : (Jvm.Cond.privateMethod ({ cls := "RailingsCount", name := "passesAll", desc := "(I)Z" } : Jvm.MethodName)) ∈ lw_tbl := lw_at lw_m5 7 rfl
theorem q1088 : (Jvm.Cond.instanceMethod ({ cls := "RailingsCount", name := "passesAll", desc := "(I)Z" } : Jvm.MethodName)) ∈ lw_all := lw_g (lw_at lw_m5 8 rfl) rfl
theorem q1089 : (Jvm.Cond.code ({ cls := "RailingsCount", name := "passesAll", desc := "(I)Z" } : Jvm.MethodName) prog_1_method_36_code (3 : Nat) (Option.some Jvm.ClassFile.FieldType.boolean)) ∈ lw_all := lw_g (lw_at lw_m5 9 rfl) rfl
theorem q1090 : (Jvm.Cond.methodLink "RailingsCount" (200 : Nat) ({ cls := "RailingsCount", name := "year", desc := "(I)I" } : Jvm.MethodName)) ∈ lw_all := lw_g (lw_at lw_m5 10 rfl) rfl
theorem q1091 : (Jvm.Cond.methodLink "RailingsCount" (253 : Nat) ({ cls := "RailingsCount$Doing", name := "number", desc := "()I" } : Jvm.MethodName)) ∈ lw_all := lw_g (lw_at lw_m5 11 rfl) rfl
theorem q1096 : (Jvm.Cond.instanceMethod ({ cls := "RailingsCount", name := "ages", desc := "(II)I" } : Jvm.MethodName)) ∈ lw_all := lw_g (lw_at lw_m5 16 rfl) rfl
theorem q1097 : (Jvm.Cond.selects "RailingsCount" ({ cls := "RailingsCount", name := "ages", desc := "(II)I" } : Jvm.MethodName) ({ cls := "RailingsCount", name := "ages", desc := "(II)I" } : Jvm.MethodName)) ∈ lw_all := lw_g (lw_at lw_m5 17 rfl) rfl
theorem q1098 : (Jvm.Cond.code ({ cls := "RailingsCount", name := "ages", desc := "(II)I" } : Jvm.MethodName) prog_1_method_40_code (7 : Nat) (Option.some Jvm.ClassFile.FieldType.int)) ∈ lw_all := lw_g (lw_at lw_m5 18 rfl) rfl
theorem q1099 : (Jvm.Cond.methodLink "RailingsCount" (256 : Nat) ({ cls := "RailingsCount", name := "befalls", desc := "(I)V" } : Jvm.MethodName)) ∈ lw_all := lw_g (lw_at lw_m5 19 rfl) rfl
theorem q1100 : (Jvm.Cond.privateMethod ({ cls := "RailingsCount", name := "befalls", desc := "(I)V" } : Jvm.MethodName)) ∈ lw_tbl := lw_at lw_m5 20 rfl
theorem q1101 : (Jvm.Cond.instanceMethod ({ cls := "RailingsCount", name := "befalls", desc := "(I)V" } : Jvm.MethodName)) ∈ lw_all := lw_g (lw_at lw_m5 21 rfl) rfl
theorem q1102 : (Jvm.Cond.code ({ cls := "RailingsCount", name := "befalls", desc := "(I)V" } : Jvm.MethodName) prog_1_method_39_code (5 : Nat) (Option.none : Option Jvm.ClassFile.FieldType)) ∈ lw_all := lw_g (lw_at lw_m5 22 rfl) rfl
theorem q1104 : (Jvm.Cond.instanceMethod ({ cls := "RailingsCount", name := "undo", desc := "()I" } : Jvm.MethodName)) ∈ lw_all := lw_g (lw_at lw_m5 24 rfl) rfl
theorem q1105 : (Jvm.Cond.selects "RailingsCount" ({ cls := "RailingsCount", name := "undo", desc := "()I" } : Jvm.MethodName) ({ cls := "RailingsCount", name := "undo", desc := "()I" } : Jvm.MethodName)) ∈ lw_all := lw_g (lw_at lw_m5 25 rfl) rfl
theorem q1106 : (Jvm.Cond.code ({ cls := "RailingsCount", name := "undo", desc := "()I" } : Jvm.MethodName) prog_1_method_41_code (1 : Nat) (Option.some Jvm.ClassFile.FieldType.int)) ∈ lw_all := lw_g (lw_at lw_m5 26 rfl) rfl
theorem q1107 : (Jvm.Cond.methodLinkNest "RailingsCount" (262 : Nat) ({ cls := "RailingsCount$State", name := "copy", desc := "([I[I)V" } : Jvm.MethodName) "RailingsCount") ∈ lw_tbl := lw_at lw_m5 27 rfl
theorem q1109 : (Jvm.Cond.instanceMethod ({ cls := "RailingsCount", name := "of", desc := "(II)I" } : Jvm.MethodName)) ∈ lw_all := lw_g (lw_at lw_m5 29 rfl) rfl
theorem q1110 : (Jvm.Cond.selects "RailingsCount" ({ cls := "RailingsCount", name := "of", desc := "(II)I" } : Jvm.MethodName) ({ cls := "RailingsCount", name := "of", desc := "(II)I" } : Jvm.MethodName)) ∈ lw_all := lw_g (lw_at lw_m5 30 rfl) rfl
theorem q1111 : (Jvm.Cond.code ({ cls := "RailingsCount", name := "of", desc := "(II)I" } : Jvm.MethodName) prog_1_method_42_code (3 : Nat) (Option.some Jvm.ClassFile.FieldType.int)) ∈ lw_all := lw_g (lw_at lw_m5 31 rfl) rfl
theorem q1113 : (Jvm.Cond.instanceMethod ({ cls := "RailingsCount", name := "ofBar", desc := "(II)I" } : Jvm.MethodName)) ∈ lw_all := lw_g (lw_at lw_m5 33 rfl) rfl
theorem q1114 : (Jvm.Cond.selects "RailingsCount" ({ cls := "RailingsCount", name := "ofBar", desc := "(II)I" } : Jvm.MethodName) ({ cls := "RailingsCount", name := "ofBar", desc := "(II)I" } : Jvm.MethodName)) ∈ lw_all := lw_g (lw_at lw_m5 34 rfl) rfl
theorem q1115 : (Jvm.Cond.code ({ cls := "RailingsCount", name := "ofBar", desc := "(II)I" } : Jvm.MethodName) prog_1_method_43_code (3 : Nat) (Option.some Jvm.ClassFile.FieldType.int)) ∈ lw_all := lw_g (lw_at lw_m5 35 rfl) rfl
theorem q1117 : (Jvm.Cond.instanceMethod ({ cls := "RailingsCount", name := "catches", desc := "(III)I" } : Jvm.MethodName)) ∈ lw_all := lw_g (lw_at lw_m5 37 rfl) rfl
theorem q1118 : (Jvm.Cond.selects "RailingsCount" ({ cls := "RailingsCount", name := "catches", desc := "(III)I" } : Jvm.MethodName) ({ cls := "RailingsCount", name := "catches", desc := "(III)I" } : Jvm.MethodName)) ∈ lw_all := lw_g (lw_at lw_m5 38 rfl) rfl
theorem q1119 : (Jvm.Cond.code ({ cls := "RailingsCount", name := "catches", desc := "(III)I" } : Jvm.MethodName) prog_1_method_44_code (4 : Nat) (Option.some Jvm.ClassFile.FieldType.int)) ∈ lw_all := lw_g (lw_at lw_m5 39 rfl) rfl
theorem q1121 : (Jvm.Cond.instanceMethod ({ cls := "RailingsCount", name := "is", desc := "(I)I" } : Jvm.MethodName)) ∈ lw_all := lw_g (lw_at lw_m5 41 rfl) rfl
theorem q1122 : (Jvm.Cond.selects "RailingsCount" ({ cls := "RailingsCount", name := "is", desc := "(I)I" } : Jvm.MethodName) ({ cls := "RailingsCount", name := "is", desc := "(I)I" } : Jvm.MethodName)) ∈ lw_all := lw_g (lw_at lw_m5 42 rfl) rfl
theorem q1123 : (Jvm.Cond.code ({ cls := "RailingsCount", name := "is", desc := "(I)I" } : Jvm.MethodName) prog_1_method_47_code (2 : Nat) (Option.some Jvm.ClassFile.FieldType.int)) ∈ lw_all := lw_g (lw_at lw_m5 43 rfl) rfl
theorem q1124 : (Jvm.Cond.methodLink "RailingsCount" (266 : Nat) ({ cls := "RailingsCount", name := "barsFrom", desc := "(II)I" } : Jvm.MethodName)) ∈ lw_all := lw_g (lw_at lw_m5 44 rfl) rfl
theorem q1125 : (Jvm.Cond.privateMethod ({ cls := "RailingsCount", name := "barsFrom", desc := "(II)I" } : Jvm.MethodName)) ∈ lw_tbl := lw_at lw_m5 45 rfl
theorem q1126 : (Jvm.Cond.instanceMethod ({ cls := "RailingsCount", name := "barsFrom", desc := "(II)I" } : Jvm.MethodName)) ∈ lw_all := lw_g (lw_at lw_m5 46 rfl) rfl
theorem q1127 : (Jvm.Cond.code ({ cls := "RailingsCount", name := "barsFrom", desc := "(II)I" } : Jvm.MethodName) prog_1_method_45_code (5 : Nat) (Option.some Jvm.ClassFile.FieldType.int)) ∈ lw_all := lw_g (lw_at lw_m5 47 rfl) rfl
theorem q1128 : (Jvm.Cond.methodLink "RailingsCount" (269 : Nat) ({ cls := "RailingsCount", name := "unnumbered", desc := "()I" } : Jvm.MethodName)) ∈ lw_all := lw_g (lw_at lw_m5 48 rfl) rfl
theorem q1129 : (Jvm.Cond.privateMethod ({ cls := "RailingsCount", name := "unnumbered", desc := "()I" } : Jvm.MethodName)) ∈ lw_tbl := lw_at lw_m5 49 rfl
theorem q1130 : (Jvm.Cond.instanceMethod ({ cls := "RailingsCount", name := "unnumbered", desc := "()I" } : Jvm.MethodName)) ∈ lw_all := lw_g (lw_at lw_m5 50 rfl) rfl
theorem q1131 : (Jvm.Cond.code ({ cls := "RailingsCount", name := "unnumbered", desc := "()I" } : Jvm.MethodName) prog_1_method_46_code (3 : Nat) (Option.some Jvm.ClassFile.FieldType.int)) ∈ lw_all := lw_g (lw_at lw_m5 51 rfl) rfl
theorem q1133 : (Jvm.Cond.instanceMethod ({ cls := "RailingsCount", name := "book", desc := "(II)I" } : Jvm.MethodName)) ∈ lw_all := lw_g (lw_at lw_m5 53 rfl) rfl
theorem q1134 : (Jvm.Cond.selects "RailingsCount" ({ cls := "RailingsCount", name := "book", desc := "(II)I" } : Jvm.MethodName) ({ cls := "RailingsCount", name := "book", desc := "(II)I" } : Jvm.MethodName)) ∈ lw_all := lw_g (lw_at lw_m5 54 rfl) rfl
theorem q1135 : (Jvm.Cond.code ({ cls := "RailingsCount", name := "book", desc := "(II)I" } : Jvm.MethodName) prog_1_method_48_code (3 : Nat) (Option.some Jvm.ClassFile.FieldType.int)) ∈ lw_all := lw_g (lw_at lw_m5 55 rfl) rfl
theorem q1137 : (Jvm.Cond.instanceMethod ({ cls := "RailingsCount", name := "foretold", desc := "(II)I" } : Jvm.MethodName)) ∈ lw_all := lw_g (lw_at lw_m5 57 rfl) rfl
theorem q1138 : (Jvm.Cond.selects "RailingsCount" ({ cls := "RailingsCount", name := "foretold", desc := "(II)I" } : Jvm.MethodName) ({ cls := "RailingsCount", name := "foretold", desc := "(II)I" } : Jvm.MethodName)) ∈ lw_all := lw_g (lw_at lw_m5 58 rfl) rfl
theorem q1139 : (Jvm.Cond.code ({ cls := "RailingsCount", name := "foretold", desc := "(II)I" } : Jvm.MethodName) prog_1_method_49_code (5 : Nat) (Option.some Jvm.ClassFile.FieldType.int)) ∈ lw_all := lw_g (lw_at lw_m5 59 rfl) rfl
theorem q1141 : (Jvm.Cond.instanceMethod ({ cls := "RailingsCount", name := "likely", desc := "(IIIZ)J" } : Jvm.MethodName)) ∈ lw_all := lw_g (lw_at lw_m5 61 rfl) rfl
theorem q1142 : (Jvm.Cond.selects "RailingsCount" ({ cls := "RailingsCount", name := "likely", desc := "(IIIZ)J" } : Jvm.MethodName) ({ cls := "RailingsCount", name := "likely", desc := "(IIIZ)J" } : Jvm.MethodName)) ∈ lw_all := lw_g (lw_at lw_m5 62 rfl) rfl
theorem q1143 : (Jvm.Cond.code ({ cls := "RailingsCount", name := "likely", desc := "(IIIZ)J" } : Jvm.MethodName) prog_1_method_55_code (11 : Nat) (Option.some Jvm.ClassFile.FieldType.long)) ∈ lw_all := lw_g (lw_at lw_m5 63 rfl) rfl
theorem q1144 : (Jvm.Cond.constantLong "RailingsCount" (285 : Nat) (-1 : Int64)) ∈ lw_all := lw_g (lw_at lw_m5 64 rfl) rfl
theorem q1145 : (Jvm.Cond.methodLink "RailingsCount" (287 : Nat) ({ cls := "RailingsCount", name := "laysBars", desc := "(I)V" } : Jvm.MethodName)) ∈ lw_all := lw_g (lw_at lw_m5 65 rfl) rfl
theorem q1146 : (Jvm.Cond.privateMethod ({ cls := "RailingsCount", name := "laysBars", desc := "(I)V" } : Jvm.MethodName)) ∈ lw_tbl := lw_at lw_m5 66 rfl
theorem q1147 : (Jvm.Cond.instanceMethod ({ cls := "RailingsCount", name := "laysBars", desc := "(I)V" } : Jvm.MethodName)) ∈ lw_all := lw_g (lw_at lw_m5 67 rfl) rfl
theorem q1148 : (Jvm.Cond.code ({ cls := "RailingsCount", name := "laysBars", desc := "(I)V" } : Jvm.MethodName) prog_1_method_50_code (3 : Nat) (Option.none : Option Jvm.ClassFile.FieldType)) ∈ lw_all := lw_g (lw_at lw_m5 68 rfl) rfl
theorem q1149 : (Jvm.Cond.methodLink "RailingsCount" (290 : Nat) ({ cls := "RailingsCount", name := "likeOf", desc := "(II)J" } : Jvm.MethodName)) ∈ lw_all := lw_g (lw_at lw_m5 69 rfl) rfl
theorem q1150 : (Jvm.Cond.privateMethod ({ cls := "RailingsCount", name := "likeOf", desc := "(II)J" } : Jvm.MethodName)) ∈ lw_tbl := lw_at lw_m5 70 rfl
theorem q1151 : (Jvm.Cond.instanceMethod ({ cls := "RailingsCount", name := "likeOf", desc := "(II)J" } : Jvm.MethodName)) ∈ lw_all := lw_g (lw_at lw_m5 71 rfl) rfl
theorem q1152 : (Jvm.Cond.code ({ cls := "RailingsCount", name := "likeOf", desc := "(II)J" } : Jvm.MethodName) prog_1_method_52_code (6 : Nat) (Option.some Jvm.ClassFile.FieldType.long)) ∈ lw_all := lw_g (lw_at lw_m5 72 rfl) rfl
theorem q1153 : (Jvm.Cond.methodLink "RailingsCount" (275 : Nat) ({ cls := "RailingsCount", name := "oddsAt", desc := "(II)I" } : Jvm.MethodName)) ∈ lw_all := lw_g (lw_at lw_m5 73 rfl) rfl
theorem q1154 : (Jvm.Cond.privateMethod ({ cls := "RailingsCount", name := "oddsAt", desc := "(II)I" } : Jvm.MethodName)) ∈ lw_tbl := lw_at lw_m5 74 rfl
theorem q1155 : (Jvm.Cond.instanceMethod ({ cls := "RailingsCount", name := "oddsAt", desc := "(II)I" } : Jvm.MethodName)) ∈ lw_all := lw_g (lw_at lw_m5 75 rfl) rfl
theorem q1156 : (Jvm.Cond.code ({ cls := "RailingsCount", name := "oddsAt", desc := "(II)I" } : Jvm.MethodName) prog_1_method_51_code (3 : Nat) (Option.some Jvm.ClassFile.FieldType.int)) ∈ lw_all := lw_g (lw_at lw_m5 76 rfl) rfl
theorem q1157 : (Jvm.Cond.constantLong "RailingsCount" (294 : Nat) (10 : Int64)) ∈ lw_all := lw_g (lw_at lw_m5 77 rfl) rfl
theorem q1158 : (Jvm.Cond.methodLink "RailingsCount" (281 : Nat) ({ cls := "RailingsCount", name := "power", desc := "(JI)J" } : Jvm.MethodName)) ∈ lw_all := lw_g (lw_at lw_m5 78 rfl) rfl
theorem q1159 : (Jvm.Cond.static ({ cls := "RailingsCount", name := "power", desc := "(JI)J" } : Jvm.MethodName)) ∈ lw_all := lw_g (lw_at lw_m5 79 rfl) rfl
theorem q1160 : (Jvm.Cond.code ({ cls := "RailingsCount", name := "power", desc := "(JI)J" } : Jvm.MethodName) prog_1_method_54_code (3 : Nat) (Option.some Jvm.ClassFile.FieldType.long)) ∈ lw_all := lw_g (lw_at lw_m5 80 rfl) rfl
theorem q1161 : (Jvm.Cond.methodLink "RailingsCount" (278 : Nat) ({ cls := "RailingsCount", name := "common", desc := "(JJ)J" } : Jvm.MethodName)) ∈ lw_all := lw_g (lw_at lw_m5 81 rfl) rfl
theorem q1162 : (Jvm.Cond.static ({ cls := "RailingsCount", name := "common", desc := "(JJ)J" } : Jvm.MethodName)) ∈ lw_all := lw_g (lw_at lw_m5 82 rfl) rfl
theorem q1163 : (Jvm.Cond.code ({ cls := "RailingsCount", name := "common", desc := "(JJ)J" } : Jvm.MethodName) prog_1_method_53_code (4 : Nat) (Option.some Jvm.ClassFile.FieldType.long)) ∈ lw_all := lw_g (lw_at lw_m5 83 rfl) rfl
theorem q1165 : (Jvm.Cond.instanceMethod ({ cls := "RailingsCount", name := "start", desc := "(II)I" } : Jvm.MethodName)) ∈ lw_all := lw_g (lw_at lw_m5 85 rfl) rfl
theorem q1166 : (Jvm.Cond.selects "RailingsCount" ({ cls := "RailingsCount", name := "start", desc := "(II)I" } : Jvm.MethodName) ({ cls := "RailingsCount", name := "start", desc := "(II)I" } : Jvm.MethodName)) ∈ lw_all := lw_g (lw_at lw_m5 86 rfl) rfl
theorem q1167 : (Jvm.Cond.code ({ cls := "RailingsCount", name := "start", desc := "(II)I" } : Jvm.MethodName) prog_1_method_56_code (9 : Nat) (Option.some Jvm.ClassFile.FieldType.int)) ∈ lw_all := lw_g (lw_at lw_m5 87 rfl) rfl
theorem q1169 : (Jvm.Cond.instanceMethod ({ cls := "RailingsCount", name := "mean", desc := "(IIZ)J" } : Jvm.MethodName)) ∈ lw_all := lw_g (lw_at lw_m5 89 rfl) rfl
theorem q1170 : (Jvm.Cond.selects "RailingsCount" ({ cls := "RailingsCount", name := "mean", desc := "(IIZ)J" } : Jvm.MethodName) ({ cls := "RailingsCount", name := "mean", desc := "(IIZ)J" } : Jvm.MethodName)) ∈ lw_all := lw_g (lw_at lw_m5 90 rfl) rfl
theorem q1171 : (Jvm.Cond.code ({ cls := "RailingsCount", name := "mean", desc := "(IIZ)J" } : Jvm.MethodName) prog_1_method_57_code (12 : Nat) (Option.some Jvm.ClassFile.FieldType.long)) ∈ lw_all := lw_g (lw_at lw_m5 91 rfl) rfl
theorem q1173 : (Jvm.Cond.instanceMethod ({ cls := "RailingsCount", name := "which", desc := "(III)I" } : Jvm.MethodName)) ∈ lw_all := lw_g (lw_at lw_m5 93 rfl) rfl
theorem q1174 : (Jvm.Cond.selects "RailingsCount" ({ cls := "RailingsCount", name := "which", desc := "(III)I" } : Jvm.MethodName) ({ cls := "RailingsCount", name := "which", desc := "(III)I" } : Jvm.MethodName)) ∈ lw_all := lw_g (lw_at lw_m5 94 rfl) rfl
theorem q1175 : (Jvm.Cond.code ({ cls := "RailingsCount", name := "which", desc := "(III)I" } : Jvm.MethodName) prog_1_method_59_code (10 : Nat) (Option.some Jvm.ClassFile.FieldType.int)) ∈ lw_all := lw_g (lw_at lw_m5 95 rfl) rfl
theorem q1176 : (Jvm.Cond.methodLink "RailingsCount" (296 : Nat) ({ cls := "RailingsCount", name := "likeWithout", desc := "(IIII)J" } : Jvm.MethodName)) ∈ lw_all := lw_g (lw_at lw_m5 96 rfl) rfl
theorem q1177 : (Jvm.Cond.privateMethod ({ cls := "RailingsCount", name := "likeWithout", desc := "(IIII)J" } : Jvm.MethodName)) ∈ lw_tbl := lw_at lw_m5 97 rfl
theorem q1178 : (Jvm.Cond.instanceMethod ({ cls := "RailingsCount", name := "likeWithout", desc := "(IIII)J" } : Jvm.MethodName)) ∈ lw_all := lw_g (lw_at lw_m5 98 rfl) rfl
theorem q1179 : (Jvm.Cond.code ({ cls := "RailingsCount", name := "likeWithout", desc := "(IIII)J" } : Jvm.MethodName) prog_1_method_58_code (8 : Nat) (Option.some Jvm.ClassFile.FieldType.long)) ∈ lw_all := lw_g (lw_at lw_m5 99 rfl) rfl
theorem q1181 : (Jvm.Cond.instanceMethod ({ cls := "RailingsCount", name := "nth", desc := "(II)I" } : Jvm.MethodName)) ∈ lw_all := lw_g (lw_at lw_m5 101 rfl) rfl
theorem q1182 : (Jvm.Cond.selects "RailingsCount" ({ cls := "RailingsCount", name := "nth", desc := "(II)I" } : Jvm.MethodName) ({ cls := "RailingsCount", name := "nth", desc := "(II)I" } : Jvm.MethodName)) ∈ lw_all := lw_g (lw_at lw_m5 102 rfl) rfl
theorem q1183 : (Jvm.Cond.code ({ cls := "RailingsCount", name := "nth", desc := "(II)I" } : Jvm.MethodName) prog_1_method_60_code (3 : Nat) (Option.some Jvm.ClassFile.FieldType.int)) ∈ lw_all := lw_g (lw_at lw_m5 103 rfl) rfl
theorem q1185 : (Jvm.Cond.instanceMethod ({ cls := "RailingsCount", name := "value", desc := "(II)Z" } : Jvm.MethodName)) ∈ lw_all := lw_g (lw_at lw_m5 105 rfl) rfl
theorem q1186 : (Jvm.Cond.selects "RailingsCount" ({ cls := "RailingsCount", name := "value", desc := "(II)Z" } : Jvm.MethodName) ({ cls := "RailingsCount", name := "value", desc := "(II)Z" } : Jvm.MethodName)) ∈ lw_all := lw_g (lw_at lw_m5 106 rfl) rfl
theorem q1187 : (Jvm.Cond.code ({ cls := "RailingsCount", name := "value", desc := "(II)Z" } : Jvm.MethodName) prog_1_method_61_code (3 : Nat) (Option.some Jvm.ClassFile.FieldType.boolean)) ∈ lw_all := lw_g (lw_at lw_m5 107 rfl) rfl
theorem q1189 : (Jvm.Cond.instanceMethod ({ cls := "RailingsCount", name := "worth", desc := "(IIZ)J" } : Jvm.MethodName)) ∈ lw_all := lw_g (lw_at lw_m5 109 rfl) rfl
theorem q1190 : (Jvm.Cond.selects "RailingsCount" ({ cls := "RailingsCount", name := "worth", desc := "(IIZ)J" } : Jvm.MethodName) ({ cls := "RailingsCount", name := "worth", desc := "(IIZ)J" } : Jvm.MethodName)) ∈ lw_all := lw_g (lw_at lw_m5 110 rfl) rfl
theorem q1191 : (Jvm.Cond.code ({ cls := "RailingsCount", name := "worth", desc := "(IIZ)J" } : Jvm.MethodName) prog_1_method_65_code (10 : Nat) (Option.some Jvm.ClassFile.FieldType.long)) ∈ lw_all := lw_g (lw_at lw_m5 111 rfl) rfl
theorem q1192 : (Jvm.Cond.methodLink "RailingsCount" (303 : Nat) ({ cls := "RailingsCount", name := "worthOf", desc := "(II)J" } : Jvm.MethodName)) ∈ lw_all := lw_g (lw_at lw_m5 112 rfl) rfl
theorem q1193 : (Jvm.Cond.privateMethod ({ cls := "RailingsCount", name := "worthOf", desc := "(II)J" } : Jvm.MethodName)) ∈ lw_tbl := lw_at lw_m5 113 rfl
theorem q1194 : (Jvm.Cond.instanceMethod ({ cls := "RailingsCount", name := "worthOf", desc := "(II)J" } : Jvm.MethodName)) ∈ lw_all := lw_g (lw_at lw_m5 114 rfl) rfl
theorem q1195 : (Jvm.Cond.code ({ cls := "RailingsCount", name := "worthOf", desc := "(II)J" } : Jvm.MethodName) prog_1_method_64_code (3 : Nat) (Option.some Jvm.ClassFile.FieldType.long)) ∈ lw_all := lw_g (lw_at lw_m5 115 rfl) rfl
theorem q1196 : (Jvm.Cond.methodLink "RailingsCount" (306 : Nat) ({ cls := "RailingsCount", name := "stopsFor", desc := "(I)J" } : Jvm.MethodName)) ∈ lw_all := lw_g (lw_at lw_m5 116 rfl) rfl
theorem q1197 : (Jvm.Cond.privateMethod ({ cls := "RailingsCount", name := "stopsFor", desc := "(I)J" } : Jvm.MethodName)) ∈ lw_tbl := lw_at lw_m5 117 rfl
theorem q1198 : (Jvm.Cond.instanceMethod ({ cls := "RailingsCount", name := "stopsFor", desc := "(I)J" } : Jvm.MethodName)) ∈ lw_all := lw_g (lw_at lw_m5 118 rfl) rfl
theorem q1199 : (Jvm.Cond.code ({ cls := "RailingsCount", name := "stopsFor", desc := "(I)J" } : Jvm.MethodName) prog_1_method_63_code (2 : Nat) (Option.some Jvm.ClassFile.FieldType.long)) ∈ lw_all := lw_g (lw_at lw_m5 119 rfl) rfl
theorem q1200 : (Jvm.Cond.methodLink "RailingsCount" (310 : Nat) ({ cls := "RailingsCount", name := "onOf", desc := "(II)J" } : Jvm.MethodName)) ∈ lw_all := lw_g (lw_at lw_m5 120 rfl) rfl
theorem q1201 : (Jvm.Cond.privateMethod ({ cls := "RailingsCount", name := "onOf", desc := "(II)J" } : Jvm.MethodName)) ∈ lw_tbl := lw_at lw_m5 121 rfl
theorem q1202 : (Jvm.Cond.instanceMethod ({ cls := "RailingsCount", name := "onOf", desc := "(II)J" } : Jvm.MethodName)) ∈ lw_all := lw_g (lw_at lw_m5 122 rfl) rfl
theorem q1203 : (Jvm.Cond.code ({ cls := "RailingsCount", name := "onOf", desc := "(II)J" } : Jvm.MethodName) prog_1_method_62_code (3 : Nat) (Option.some Jvm.ClassFile.FieldType.long)) ∈ lw_all := lw_g (lw_at lw_m5 123 rfl) rfl
theorem q1205 : (Jvm.Cond.instanceMethod ({ cls := "RailingsCount", name := "goesOn", desc := "(III)I" } : Jvm.MethodName)) ∈ lw_all := lw_g (lw_at lw_m5 125 rfl) rfl
theorem q1206 : (Jvm.Cond.selects "RailingsCount" ({ cls := "RailingsCount", name := "goesOn", desc := "(III)I" } : Jvm.MethodName) ({ cls := "RailingsCount", name := "goesOn", desc := "(III)I" } : Jvm.MethodName)) ∈ lw_all := lw_g (lw_at lw_m5 126 rfl) rfl
theorem q1207 : (Jvm.Cond.code ({ cls := "RailingsCount", name := "goesOn", desc := "(III)I" } : Jvm.MethodName) prog_1_method_66_code (4 : Nat) (Option.some Jvm.ClassFile.FieldType.int)) ∈ lw_all := lw_g (lw_at lw_m5 127 rfl) rfl
theorem q1209 : (Jvm.Cond.instanceMethod ({ cls := "RailingsCount", name := "best", desc := "(I)I" } : Jvm.MethodName)) ∈ lw_all := lw_g (lw_at lw_m5 129 rfl) rfl
theorem q1210 : (Jvm.Cond.selects "RailingsCount" ({ cls := "RailingsCount", name := "best", desc := "(I)I" } : Jvm.MethodName) ({ cls := "RailingsCount", name := "best", desc := "(I)I" } : Jvm.MethodName)) ∈ lw_all := lw_g (lw_at lw_m5 130 rfl) rfl
theorem q1211 : (Jvm.Cond.code ({ cls := "RailingsCount", name := "best", desc := "(I)I" } : Jvm.MethodName) prog_1_method_67_code (8 : Nat) (Option.some Jvm.ClassFile.FieldType.int)) ∈ lw_all := lw_g (lw_at lw_m5 131 rfl) rfl
theorem q1213 : (Jvm.Cond.instanceMethod ({ cls := "RailingsCount", name := "tell", desc := "(III)I" } : Jvm.MethodName)) ∈ lw_all := lw_g (lw_at lw_m5 133 rfl) rfl
theorem q1214 : (Jvm.Cond.selects "RailingsCount" ({ cls := "RailingsCount", name := "tell", desc := "(III)I" } : Jvm.MethodName) ({ cls := "RailingsCount", name := "tell", desc := "(III)I" } : Jvm.MethodName)) ∈ lw_all := lw_g (lw_at lw_m5 134 rfl) rfl
theorem q1215 : (Jvm.Cond.code ({ cls := "RailingsCount", name := "tell", desc := "(III)I" } : Jvm.MethodName) prog_1_method_68_code (4 : Nat) (Option.some Jvm.ClassFile.FieldType.int)) ∈ lw_all := lw_g (lw_at lw_m5 135 rfl) rfl
theorem q1216 : (Jvm.Cond.methodLink "RailingsCount" (313 : Nat) ({ cls := "RailingsCount$State", name := "clears", desc := "(I)I" } : Jvm.MethodName)) ∈ lw_all := lw_g (lw_at lw_m5 136 rfl) rfl
theorem q1220 : (Jvm.Cond.methodLink "RailingsCount" (319 : Nat) ({ cls := "RailingsCount$State", name := "adds", desc := "([[IIIII)I" } : Jvm.MethodName)) ∈ lw_all := lw_g (lw_at lw_m5 140 rfl) rfl
theorem q1225 : (Jvm.Cond.instanceMethod ({ cls := "RailingsCount", name := "could", desc := "(II)I" } : Jvm.MethodName)) ∈ lw_all := lw_g (lw_at lw_m5 145 rfl) rfl
theorem q1226 : (Jvm.Cond.selects "RailingsCount" ({ cls := "RailingsCount", name := "could", desc := "(II)I" } : Jvm.MethodName) ({ cls := "RailingsCount", name := "could", desc := "(II)I" } : Jvm.MethodName)) ∈ lw_all := lw_g (lw_at lw_m5 146 rfl) rfl
theorem q1227 : (Jvm.Cond.code ({ cls := "RailingsCount", name := "could", desc := "(II)I" } : Jvm.MethodName) prog_1_method_71_code (7 : Nat) (Option.some Jvm.ClassFile.FieldType.int)) ∈ lw_all := lw_g (lw_at lw_m5 147 rfl) rfl
theorem q1228 : (Jvm.Cond.methodLink "RailingsCount" (334 : Nat) ({ cls := "RailingsCount", name := "canBe", desc := "(II)Z" } : Jvm.MethodName)) ∈ lw_all := lw_g (lw_at lw_m5 148 rfl) rfl
theorem q1229 : (Jvm.Cond.privateMethod ({ cls := "RailingsCount", name := "canBe", desc := "(II)Z" } : Jvm.MethodName)) ∈ lw_tbl := lw_at lw_m5 149 rfl
theorem q1230 : (Jvm.Cond.instanceMethod ({ cls := "RailingsCount", name := "canBe", desc := "(II)Z" } : Jvm.MethodName)) ∈ lw_all := lw_g (lw_at lw_m5 150 rfl) rfl
theorem q1231 : (Jvm.Cond.code ({ cls := "RailingsCount", name := "canBe", desc := "(II)Z" } : Jvm.MethodName) prog_1_method_70_code (5 : Nat) (Option.some Jvm.ClassFile.FieldType.boolean)) ∈ lw_all := lw_g (lw_at lw_m5 151 rfl) rfl
theorem q1232 : (Jvm.Cond.methodLink "RailingsCount" (327 : Nat) ({ cls := "RailingsCount", name := "barsOf", desc := "(III)I" } : Jvm.MethodName)) ∈ lw_all := lw_g (lw_at lw_m5 152 rfl) rfl
theorem q1233 : (Jvm.Cond.static ({ cls := "RailingsCount", name := "barsOf", desc := "(III)I" } : Jvm.MethodName)) ∈ lw_all := lw_g (lw_at lw_m5 153 rfl) rfl
theorem q1234 : (Jvm.Cond.code ({ cls := "RailingsCount", name := "barsOf", desc := "(III)I" } : Jvm.MethodName) prog_1_method_69_code (3 : Nat) (Option.some Jvm.ClassFile.FieldType.int)) ∈ lw_all := lw_g (lw_at lw_m5 154 rfl) rfl
theorem q1235 : (Jvm.Cond.methodLink "RailingsCount" (322 : Nat) ({ cls := "java/lang/Integer", name := "bitCount", desc := "(I)I" } : Jvm.MethodName)) ∈ lw_all := lw_g (lw_at lw_m5 155 rfl) rfl
theorem q1241 : (Jvm.Cond.methodLink "RailingsCount" (331 : Nat) ({ cls := "java/lang/Math", name := "abs", desc := "(I)I" } : Jvm.MethodName)) ∈ lw_all := lw_g (lw_at lw_m5 161 rfl) rfl
theorem q1245 : (Jvm.Cond.instanceMethod ({ cls := "RailingsCount", name := "ask", desc := "(I)I" } : Jvm.MethodName)) ∈ lw_all := lw_g (lw_at lw_m5 165 rfl) rfl
theorem q1246 : (Jvm.Cond.selects "RailingsCount" ({ cls := "RailingsCount", name := "ask", desc := "(I)I" } : Jvm.MethodName) ({ cls := "RailingsCount", name := "ask", desc := "(I)I" } : Jvm.MethodName)) ∈ lw_all := lw_g (lw_at lw_m5 166 rfl) rfl
theorem q1247 : (Jvm.Cond.code ({ cls := "RailingsCount", name := "ask", desc := "(I)I" } : Jvm.MethodName) prog_1_method_73_code (7 : Nat) (Option.some Jvm.ClassFile.FieldType.int)) ∈ lw_all := lw_g (lw_at lw_m5 167 rfl) rfl
theorem q1248 : (Jvm.Cond.methodLink "RailingsCount" (339 : Nat) ({ cls := "RailingsCount", name := "could", desc := "(II)I" } : Jvm.MethodName)) ∈ lw_all := lw_g (lw_at lw_m5 168 rfl) rfl
theorem q1249 : (Jvm.Cond.constant "RailingsCount" (342 : Nat) (99999 : Int32)) ∈ lw_all := lw_g (lw_at lw_m5 169 rfl) rfl
theorem q1250 : (Jvm.Cond.methodLink "RailingsCount" (343 : Nat) ({ cls := "RailingsCount", name := "leftBy", desc := "(III)I" } : Jvm.MethodName)) ∈ lw_all := lw_g (lw_at lw_m5 170 rfl) rfl
theorem q1251 : (Jvm.Cond.privateMethod ({ cls := "RailingsCount", name := "leftBy", desc := "(III)I" } : Jvm.MethodName)) ∈ lw_tbl := lw_at lw_m5 171 rfl
theorem q1252 : (Jvm.Cond.instanceMethod ({ cls := "RailingsCount", name := "leftBy", desc := "(III)I" } : Jvm.MethodName)) ∈ lw_all := lw_g (lw_at lw_m5 172 rfl) rfl
theorem q1253 : (Jvm.Cond.code ({ cls := "RailingsCount", name := "leftBy", desc := "(III)I" } : Jvm.MethodName) prog_1_method_72_code (8 : Nat) (Option.some Jvm.ClassFile.FieldType.int)) ∈ lw_all := lw_g (lw_at lw_m5 173 rfl) rfl
theorem q1254 : (Jvm.Cond.methodLink "RailingsCount" (337 : Nat) ({ cls := "java/lang/Math", name := "max", desc := "(II)I" } : Jvm.MethodName)) ∈ lw_all := lw_g (lw_at lw_m5 174 rfl) rfl
theorem q1256 : (Jvm.Cond.instanceMethod ({ cls := "RailingsCount", name := "sings", desc := "(IIZ)I" } : Jvm.MethodName)) ∈ lw_all := lw_g (lw_at lw_m5 176 rfl) rfl
theorem q1257 : (Jvm.Cond.selects "RailingsCount" ({ cls := "RailingsCount", name := "sings", desc := "(IIZ)I" } : Jvm.MethodName) ({ cls := "RailingsCount", name := "sings", desc := "(IIZ)I" } : Jvm.MethodName)) ∈ lw_all := lw_g (lw_at lw_m5 177 rfl) rfl
theorem q1258 : (Jvm.Cond.code ({ cls := "RailingsCount", name := "sings", desc := "(IIZ)I" } : Jvm.MethodName) prog_1_method_76_code (5 : Nat) (Option.some Jvm.ClassFile.FieldType.int)) ∈ lw_all := lw_g (lw_at lw_m5 178 rfl) rfl
theorem q1259 : (Jvm.Cond.methodLink "RailingsCount" (349 : Nat) ({ cls := "RailingsCount", name := "laysCosts", desc := "()V" } : Jvm.MethodName)) ∈ lw_all := lw_g (lw_at lw_m5 179 rfl) rfl
theorem q1260 : (Jvm.Cond.privateMethod ({ cls := "RailingsCount", name := "laysCosts", desc := "()V" } : Jvm.MethodName)) ∈ lw_tbl := lw_at lw_m5 180 rfl
theorem q1261 : (Jvm.Cond.instanceMethod ({ cls := "RailingsCount", name := "laysCosts", desc := "()V" } : Jvm.MethodName)) ∈ lw_all := lw_g (lw_at lw_m5 181 rfl) rfl
theorem q1262 : (Jvm.Cond.code ({ cls := "RailingsCount", name := "laysCosts", desc := "()V" } : Jvm.MethodName) prog_1_method_75_code (4 : Nat) (Option.none : Option Jvm.ClassFile.FieldType)) ∈ lw_all := lw_g (lw_at lw_m5 182 rfl) rfl
theorem q1263 : (Jvm.Cond.methodLink "RailingsCount" (346 : Nat) ({ cls := "RailingsCount", name := "costBy", desc := "(III)I" } : Jvm.MethodName)) ∈ lw_all := lw_g (lw_at lw_m5 183 rfl) rfl
theorem q1264 : (Jvm.Cond.privateMethod ({ cls := "RailingsCount", name := "costBy", desc := "(III)I" } : Jvm.MethodName)) ∈ lw_tbl := lw_at lw_m5 184 rfl
theorem q1265 : (Jvm.Cond.instanceMethod ({ cls := "RailingsCount", name := "costBy", desc := "(III)I" } : Jvm.MethodName)) ∈ lw_all := lw_g (lw_at lw_m5 185 rfl) rfl
theorem q1266 : (Jvm.Cond.code ({ cls := "RailingsCount", name := "costBy", desc := "(III)I" } : Jvm.MethodName) prog_1_method_74_code (4 : Nat) (Option.some Jvm.ClassFile.FieldType.int)) ∈ lw_all := lw_g (lw_at lw_m5 186 rfl) rfl
theorem q1268 : (Jvm.Cond.instanceMethod ({ cls := "RailingsCount", name := "visits", desc := "(II)I" } : Jvm.MethodName)) ∈ lw_all := lw_g (lw_at lw_m5 188 rfl) rfl
theorem q1269 : (Jvm.Cond.selects "RailingsCount" ({ cls := "RailingsCount", name := "visits", desc := "(II)I" } : Jvm.MethodName) ({ cls := "RailingsCount", name := "visits", desc := "(II)I" } : Jvm.MethodName)) ∈ lw_all := lw_g (lw_at lw_m5 189 rfl) rfl
theorem q1270 : (Jvm.Cond.code ({ cls := "RailingsCount", name := "visits", desc := "(II)I" } : Jvm.MethodName) prog_1_method_77_code (5 : Nat) (Option.some Jvm.ClassFile.FieldType.int)) ∈ lw_all := lw_g (lw_at lw_m5 190 rfl) rfl
theorem q1272 : (Jvm.Cond.instanceMethod ({ cls := "RailingsCount", name := "meet", desc := "(IIII)I" } : Jvm.MethodName)) ∈ lw_all := lw_g (lw_at lw_m5 192 rfl) rfl
theorem q1273 : (Jvm.Cond.selects "RailingsCount" ({ cls := "RailingsCount", name := "meet", desc := "(IIII)I" } : Jvm.MethodName) ({ cls := "RailingsCount", name := "meet", desc := "(IIII)I" } : Jvm.MethodName)) ∈ lw_all := lw_g (lw_at lw_m5 193 rfl) rfl
theorem q1274 : (Jvm.Cond.code ({ cls := "RailingsCount", name := "meet", desc := "(IIII)I" } : Jvm.MethodName) prog_1_method_78_code (6 : Nat) (Option.some Jvm.ClassFile.FieldType.int)) ∈ lw_all := lw_g (lw_at lw_m5 194 rfl) rfl
theorem q1276 : (Jvm.Cond.instanceMethod ({ cls := "RailingsCount", name := "period", desc := "()I" } : Jvm.MethodName)) ∈ lw_all := lw_g (lw_at lw_m5 196 rfl) rfl
theorem q1277 : (Jvm.Cond.selects "RailingsCount" ({ cls := "RailingsCount", name := "period", desc := "()I" } : Jvm.MethodName) ({ cls := "RailingsCount", name := "period", desc := "()I" } : Jvm.MethodName)) ∈ lw_all := lw_g (lw_at lw_m5 197 rfl) rfl
theorem q1278 : (Jvm.Cond.code ({ cls := "RailingsCount", name := "period", desc := "()I" } : Jvm.MethodName) prog_1_method_80_code (2 : Nat) (Option.some Jvm.ClassFile.FieldType.int)) ∈ lw_all := lw_g (lw_at lw_m5 198 rfl) rfl
theorem q1279 : (Jvm.Cond.methodLink "RailingsCount" (352 : Nat) ({ cls := "RailingsCount", name := "isTurn", desc := "(I)Z" } : Jvm.MethodName)) ∈ lw_all := lw_g (lw_at lw_m5 199 rfl) rfl
theorem q1280 : (Jvm.Cond.privateMethod ({ cls := "RailingsCount", name := "isTurn", desc := "(I)Z" } : Jvm.MethodName)) ∈ lw_tbl := lw_at lw_m5 200 rfl
theorem q1281 : (Jvm.Cond.instanceMethod ({ cls := "RailingsCount", name := "isTurn", desc := "(I)Z" } : Jvm.MethodName)) ∈ lw_all := lw_g (lw_at lw_m5 201 rfl) rfl
theorem q1282 : (Jvm.Cond.code ({ cls := "RailingsCount", name := "isTurn", desc := "(I)Z" } : Jvm.MethodName) prog_1_method_79_code (3 : Nat) (Option.some Jvm.ClassFile.FieldType.boolean)) ∈ lw_all := lw_g (lw_at lw_m5 202 rfl) rfl
theorem q1284 : (Jvm.Cond.instanceMethod ({ cls := "RailingsCount", name := "least", desc := "()I" } : Jvm.MethodName)) ∈ lw_all := lw_g (lw_at lw_m5 204 rfl) rfl
theorem q1285 : (Jvm.Cond.selects "RailingsCount" ({ cls := "RailingsCount", name := "least", desc := "()I" } : Jvm.MethodName) ({ cls := "RailingsCount", name := "least", desc := "()I" } : Jvm.MethodName)) ∈ lw_all := lw_g (lw_at lw_m5 205 rfl) rfl
theorem q1286 : (Jvm.Cond.code ({ cls := "RailingsCount", name := "least", desc := "()I" } : Jvm.MethodName) prog_1_method_82_code (3 : Nat) (Option.some Jvm.ClassFile.FieldType.int)) ∈ lw_all := lw_g (lw_at lw_m5 206 rfl) rfl
theorem q1287 : (Jvm.Cond.methodLink "RailingsCount" (355 : Nat) ({ cls := "RailingsCount", name := "moreFrom", desc := "(II)I" } : Jvm.MethodName)) ∈ lw_all := lw_g (lw_at lw_m5 207 rfl) rfl
theorem q1288 : (Jvm.Cond.privateMethod ({ cls := "RailingsCount", name := "moreFrom", desc := "(II)I" } : Jvm.MethodName)) ∈ lw_tbl := lw_at lw_m5 208 rfl
theorem q1289 : (Jvm.Cond.instanceMethod ({ cls := "RailingsCount", name := "moreFrom", desc := "(II)I" } : Jvm.MethodName)) ∈ lw_all := lw_g (lw_at lw_m5 209 rfl) rfl
theorem q1290 : (Jvm.Cond.code ({ cls := "RailingsCount", name := "moreFrom", desc := "(II)I" } : Jvm.MethodName) prog_1_method_81_code (5 : Nat) (Option.some Jvm.ClassFile.FieldType.int)) ∈ lw_all := lw_g (lw_at lw_m5 210 rfl) rfl
theorem q1292 : (Jvm.Cond.instanceMethod ({ cls := "RailingsCount", name := "mirrors", desc := "()I" } : Jvm.MethodName)) ∈ lw_all := lw_g (lw_at lw_m5 212 rfl) rfl
theorem q1293 : (Jvm.Cond.selects "RailingsCount" ({ cls := "RailingsCount", name := "mirrors", desc := "()I" } : Jvm.MethodName) ({ cls := "RailingsCount", name := "mirrors", desc := "()I" } : Jvm.MethodName)) ∈ lw_all := lw_g (lw_at lw_m5 213 rfl) rfl
theorem q1294 : (Jvm.Cond.code ({ cls := "RailingsCount", name := "mirrors", desc := "()I" } : Jvm.MethodName) prog_1_method_84_code (3 : Nat) (Option.some Jvm.ClassFile.FieldType.int)) ∈ lw_all := lw_g (lw_at lw_m5 214 rfl) rfl
theorem q1295 : (Jvm.Cond.methodLink "RailingsCount" (358 : Nat) ({ cls := "RailingsCount", name := "isMirror", desc := "(I)Z" } : Jvm.MethodName)) ∈ lw_all := lw_g (lw_at lw_m5 215 rfl) rfl
theorem q1296 : (Jvm.Cond.privateMethod ({ cls := "RailingsCount", name := "isMirror", desc := "(I)Z" } : Jvm.MethodName)) ∈ lw_tbl := lw_at lw_m5 216 rfl
theorem q1297 : (Jvm.Cond.instanceMethod ({ cls := "RailingsCount", name := "isMirror", desc := "(I)Z" } : Jvm.MethodName)) ∈ lw_all := lw_g (lw_at lw_m5 217 rfl) rfl
theorem q1298 : (Jvm.Cond.code ({ cls := "RailingsCount", name := "isMirror", desc := "(I)Z" } : Jvm.MethodName) prog_1_method_83_code (3 : Nat) (Option.some Jvm.ClassFile.FieldType.boolean)) ∈ lw_all := lw_g (lw_at lw_m5 218 rfl) rfl
theorem q1300 : (Jvm.Cond.instanceMethod ({ cls := "RailingsCount", name := "longest", desc := "(IZ)I" } : Jvm.MethodName)) ∈ lw_all := lw_g (lw_at lw_m5 220 rfl) rfl
theorem q1301 : (Jvm.Cond.selects "RailingsCount" ({ cls := "RailingsCount", name := "longest", desc := "(IZ)I" } : Jvm.MethodName) ({ cls := "RailingsCount", name := "longest", desc := "(IZ)I" } : Jvm.MethodName)) ∈ lw_all := lw_g (lw_at lw_m5 221 rfl) rfl
theorem q1302 : (Jvm.Cond.code ({ cls := "RailingsCount", name := "longest", desc := "(IZ)I" } : Jvm.MethodName) prog_1_method_86_code (5 : Nat) (Option.some Jvm.ClassFile.FieldType.int)) ∈ lw_all := lw_g (lw_at lw_m5 222 rfl) rfl
theorem q1303 : (Jvm.Cond.methodLink "RailingsCount" (361 : Nat) ({ cls := "RailingsCount", name := "runFrom", desc := "(II)I" } : Jvm.MethodName)) ∈ lw_all := lw_g (lw_at lw_m5 223 rfl) rfl
theorem q1304 : (Jvm.Cond.privateMethod ({ cls := "RailingsCount", name := "runFrom", desc := "(II)I" } : Jvm.MethodName)) ∈ lw_tbl := lw_at lw_m5 224 rfl
theorem q1305 : (Jvm.Cond.instanceMethod ({ cls := "RailingsCount", name := "runFrom", desc := "(II)I" } : Jvm.MethodName)) ∈ lw_all := lw_g (lw_at lw_m5 225 rfl) rfl
theorem q1306 : (Jvm.Cond.code ({ cls := "RailingsCount", name := "runFrom", desc := "(II)I" } : Jvm.MethodName) prog_1_method_85_code (4 : Nat) (Option.some Jvm.ClassFile.FieldType.int)) ∈ lw_all := lw_g (lw_at lw_m5 226 rfl) rfl
theorem q1308 : (Jvm.Cond.instanceMethod ({ cls := "RailingsCount", name := "arc", desc := "(I)I" } : Jvm.MethodName)) ∈ lw_all := lw_g (lw_at lw_m5 228 rfl) rfl
theorem q1309 : (Jvm.Cond.selects "RailingsCount" ({ cls := "RailingsCount", name := "arc", desc := "(I)I" } : Jvm.MethodName) ({ cls := "RailingsCount", name := "arc", desc := "(I)I" } : Jvm.MethodName)) ∈ lw_all := lw_g (lw_at lw_m5 229 rfl) rfl
theorem q1310 : (Jvm.Cond.code ({ cls := "RailingsCount", name := "arc", desc := "(I)I" } : Jvm.MethodName) prog_1_method_87_code (4 : Nat) (Option.some Jvm.ClassFile.FieldType.int)) ∈ lw_all := lw_g (lw_at lw_m5 230 rfl) rfl
theorem q1312 : (Jvm.Cond.instanceMethod ({ cls := "RailingsCount", name := "quiet", desc := "(I)I" } : Jvm.MethodName)) ∈ lw_all := lw_g (lw_at lw_m5 232 rfl) rfl
theorem q1313 : (Jvm.Cond.selects "RailingsCount" ({ cls := "RailingsCount", name := "quiet", desc := "(I)I" } : Jvm.MethodName) ({ cls := "RailingsCount", name := "quiet", desc := "(I)I" } : Jvm.MethodName)) ∈ lw_all := lw_g (lw_at lw_m5 233 rfl) rfl
theorem q1314 : (Jvm.Cond.code ({ cls := "RailingsCount", name := "quiet", desc := "(I)I" } : Jvm.MethodName) prog_1_method_88_code (4 : Nat) (Option.some Jvm.ClassFile.FieldType.int)) ∈ lw_all := lw_g (lw_at lw_m5 234 rfl) rfl
theorem q1316 : (Jvm.Cond.instanceMethod ({ cls := "RailingsCount", name := "changed", desc := "()I" } : Jvm.MethodName)) ∈ lw_all := lw_g (lw_at lw_m5 236 rfl) rfl
theorem q1317 : (Jvm.Cond.selects "RailingsCount" ({ cls := "RailingsCount", name := "changed", desc := "()I" } : Jvm.MethodName) ({ cls := "RailingsCount", name := "changed", desc := "()I" } : Jvm.MethodName)) ∈ lw_all := lw_g (lw_at lw_m5 237 rfl) rfl
theorem q1318 : (Jvm.Cond.code ({ cls := "RailingsCount", name := "changed", desc := "()I" } : Jvm.MethodName) prog_1_method_89_code (3 : Nat) (Option.some Jvm.ClassFile.FieldType.int)) ∈ lw_all := lw_g (lw_at lw_m5 238 rfl) rfl
theorem q1320 : (Jvm.Cond.instanceMethod ({ cls := "RailingsCount", name := "said", desc := "(III)I" } : Jvm.MethodName)) ∈ lw_all := lw_g (lw_at lw_m6 0 rfl) rfl
theorem q1321 : (Jvm.Cond.selects "RailingsCount" ({ cls := "RailingsCount", name := "said", desc := "(III)I" } : Jvm.MethodName) ({ cls := "RailingsCount", name := "said", desc := "(III)I" } : Jvm.MethodName)) ∈ lw_all := lw_g (lw_at lw_m6 1 rfl) rfl
theorem q1322 : (Jvm.Cond.code ({ cls := "RailingsCount", name := "said", desc := "(III)I" } : Jvm.MethodName) prog_1_method_90_code (4 : Nat) (Option.some Jvm.ClassFile.FieldType.int)) ∈ lw_all := lw_g (lw_at lw_m6 2 rfl) rfl
theorem q1324 : (Jvm.Cond.instanceMethod ({ cls := "RailingsCount", name := "whose", desc := "()I" } : Jvm.MethodName)) ∈ lw_all := lw_g (lw_at lw_m6 4 rfl) rfl
theorem q1325 : (Jvm.Cond.selects "RailingsCount" ({ cls := "RailingsCount", name := "whose", desc := "()I" } : Jvm.MethodName) ({ cls := "RailingsCount", name := "whose", desc := "()I" } : Jvm.MethodName)) ∈ lw_all := lw_g (lw_at lw_m6 5 rfl) rfl
theorem q1326 : (Jvm.Cond.code ({ cls := "RailingsCount", name := "whose", desc := "()I" } : Jvm.MethodName) prog_1_method_92_code (3 : Nat) (Option.some Jvm.ClassFile.FieldType.int)) ∈ lw_all := lw_g (lw_at lw_m6 6 rfl) rfl
theorem q1327 : (Jvm.Cond.methodLink "RailingsCount" (367 : Nat) ({ cls := "RailingsCount", name := "isLaw", desc := "(LRailingsCount$Text;)Z" } : Jvm.MethodName)) ∈ lw_all := lw_g (lw_at lw_m6 7 rfl) rfl
theorem q1328 : (Jvm.Cond.privateMethod ({ cls := "RailingsCount", name := "isLaw", desc := "(LRailingsCount$Text;)Z" } : Jvm.MethodName)) ∈ lw_tbl := lw_at lw_m6 8 rfl
theorem q1329 : (Jvm.Cond.instanceMethod ({ cls := "RailingsCount", name := "isLaw", desc := "(LRailingsCount$Text;)Z" } : Jvm.MethodName)) ∈ lw_all := lw_g (lw_at lw_m6 9 rfl) rfl
theorem q1330 : (Jvm.Cond.code ({ cls := "RailingsCount", name := "isLaw", desc := "(LRailingsCount$Text;)Z" } : Jvm.MethodName) prog_1_method_91_code (3 : Nat) (Option.some Jvm.ClassFile.FieldType.boolean)) ∈ lw_all := lw_g (lw_at lw_m6 10 rfl) rfl
theorem q1332 : (Jvm.Cond.instanceMethod ({ cls := "RailingsCount", name := "greatest", desc := "()I" } : Jvm.MethodName)) ∈ lw_all := lw_g (lw_at lw_m6 12 rfl) rfl
theorem q1333 : (Jvm.Cond.selects "RailingsCount" ({ cls := "RailingsCount", name := "greatest", desc := "()I" } : Jvm.MethodName) ({ cls := "RailingsCount", name := "greatest", desc := "()I" } : Jvm.MethodName)) ∈ lw_all := lw_g (lw_at lw_m6 13 rfl) rfl
theorem q1334 : (Jvm.Cond.code ({ cls := "RailingsCount", name := "greatest", desc := "()I" } : Jvm.MethodName) prog_1_method_93_code (3 : Nat) (Option.some Jvm.ClassFile.FieldType.int)) ∈ lw_all := lw_g (lw_at lw_m6 14 rfl) rfl
theorem q1336 : (Jvm.Cond.instanceMethod ({ cls := "RailingsCount", name := "twins", desc := "()I" } : Jvm.MethodName)) ∈ lw_all := lw_g (lw_at lw_m6 16 rfl) rfl
theorem q1337 : (Jvm.Cond.selects "RailingsCount" ({ cls := "RailingsCount", name := "twins", desc := "()I" } : Jvm.MethodName) ({ cls := "RailingsCount", name := "twins", desc := "()I" } : Jvm.MethodName)) ∈ lw_all := lw_g (lw_at lw_m6 17 rfl) rfl
theorem q1338 : (Jvm.Cond.code ({ cls := "RailingsCount", name := "twins", desc := "()I" } : Jvm.MethodName) prog_1_method_94_code (4 : Nat) (Option.some Jvm.ClassFile.FieldType.int)) ∈ lw_all := lw_g (lw_at lw_m6 18 rfl) rfl
theorem q1340 : (Jvm.Cond.instanceMethod ({ cls := "RailingsCount", name := "odd", desc := "()I" } : Jvm.MethodName)) ∈ lw_all := lw_g (lw_at lw_m6 20 rfl) rfl
theorem q1341 : (Jvm.Cond.selects "RailingsCount" ({ cls := "RailingsCount", name := "odd", desc := "()I" } : Jvm.MethodName) ({ cls := "RailingsCount", name := "odd", desc := "()I" } : Jvm.MethodName)) ∈ lw_all := lw_g (lw_at lw_m6 21 rfl) rfl
theorem q1342 : (Jvm.Cond.code ({ cls := "RailingsCount", name := "odd", desc := "()I" } : Jvm.MethodName) prog_1_method_95_code (3 : Nat) (Option.some Jvm.ClassFile.FieldType.int)) ∈ lw_all := lw_g (lw_at lw_m6 22 rfl) rfl
theorem q1344 : (Jvm.Cond.instanceMethod ({ cls := "RailingsCount", name := "thickest", desc := "()I" } : Jvm.MethodName)) ∈ lw_all := lw_g (lw_at lw_m6 24 rfl) rfl
theorem q1345 : (Jvm.Cond.selects "RailingsCount" ({ cls := "RailingsCount", name := "thickest", desc := "()I" } : Jvm.MethodName) ({ cls := "RailingsCount", name := "thickest", desc := "()I" } : Jvm.MethodName)) ∈ lw_all := lw_g (lw_at lw_m6 25 rfl) rfl
theorem q1346 : (Jvm.Cond.code ({ cls := "RailingsCount", name := "thickest", desc := "()I" } : Jvm.MethodName) prog_1_method_96_code (3 : Nat) (Option.some Jvm.ClassFile.FieldType.int)) ∈ lw_all := lw_g (lw_at lw_m6 26 rfl) rfl
theorem q1348 : (Jvm.Cond.instanceMethod ({ cls := "RailingsCount", name := "ledger", desc := "(I)I" } : Jvm.MethodName)) ∈ lw_all := lw_g (lw_at lw_m6 28 rfl) rfl
theorem q1349 : (Jvm.Cond.selects "RailingsCount" ({ cls := "RailingsCount", name := "ledger", desc := "(I)I" } : Jvm.MethodName) ({ cls := "RailingsCount", name := "ledger", desc := "(I)I" } : Jvm.MethodName)) ∈ lw_all := lw_g (lw_at lw_m6 29 rfl) rfl
theorem q1350 : (Jvm.Cond.code ({ cls := "RailingsCount", name := "ledger", desc := "(I)I" } : Jvm.MethodName) prog_1_method_97_code (4 : Nat) (Option.some Jvm.ClassFile.FieldType.int)) ∈ lw_all := lw_g (lw_at lw_m6 30 rfl) rfl
theorem q1352 : (Jvm.Cond.instanceMethod ({ cls := "RailingsCount", name := "image", desc := "()I" } : Jvm.MethodName)) ∈ lw_all := lw_g (lw_at lw_m6 32 rfl) rfl
theorem q1353 : (Jvm.Cond.selects "RailingsCount" ({ cls := "RailingsCount", name := "image", desc := "()I" } : Jvm.MethodName) ({ cls := "RailingsCount", name := "image", desc := "()I" } : Jvm.MethodName)) ∈ lw_all := lw_g (lw_at lw_m6 33 rfl) rfl
theorem q1354 : (Jvm.Cond.code ({ cls := "RailingsCount", name := "image", desc := "()I" } : Jvm.MethodName) prog_1_method_98_code (1 : Nat) (Option.some Jvm.ClassFile.FieldType.int)) ∈ lw_all := lw_g (lw_at lw_m6 34 rfl) rfl
theorem q1356 : (Jvm.Cond.instanceMethod ({ cls := "RailingsCount", name := "back", desc := "()I" } : Jvm.MethodName)) ∈ lw_all := lw_g (lw_at lw_m6 36 rfl) rfl
theorem q1357 : (Jvm.Cond.selects "RailingsCount" ({ cls := "RailingsCount", name := "back", desc := "()I" } : Jvm.MethodName) ({ cls := "RailingsCount", name := "back", desc := "()I" } : Jvm.MethodName)) ∈ lw_all := lw_g (lw_at lw_m6 37 rfl) rfl
theorem q1358 : (Jvm.Cond.code ({ cls := "RailingsCount", name := "back", desc := "()I" } : Jvm.MethodName) prog_1_method_99_code (1 : Nat) (Option.some Jvm.ClassFile.FieldType.int)) ∈ lw_all := lw_g (lw_at lw_m6 38 rfl) rfl
theorem q1360 : (Jvm.Cond.instanceMethod ({ cls := "RailingsCount", name := "about", desc := "(I)I" } : Jvm.MethodName)) ∈ lw_all := lw_g (lw_at lw_m6 40 rfl) rfl
theorem q1361 : (Jvm.Cond.selects "RailingsCount" ({ cls := "RailingsCount", name := "about", desc := "(I)I" } : Jvm.MethodName) ({ cls := "RailingsCount", name := "about", desc := "(I)I" } : Jvm.MethodName)) ∈ lw_all := lw_g (lw_at lw_m6 41 rfl) rfl
theorem q1362 : (Jvm.Cond.code ({ cls := "RailingsCount", name := "about", desc := "(I)I" } : Jvm.MethodName) prog_1_method_100_code (2 : Nat) (Option.some Jvm.ClassFile.FieldType.int)) ∈ lw_all := lw_g (lw_at lw_m6 42 rfl) rfl
theorem q2018 : (Jvm.Cond.castable "RailingsCount" "java/lang/Object") ∈ lw_tbl := lw_at lw_m8 218 rfl
theorem in_X0 : ∀ w ∈ wsX00, w ∈ lw_all := lw_in wsX00 [243, 245, 247, 249, 251, 253, 255, 257, 259, 261, 263] (by decide +kernel) (by decide +kernel)
