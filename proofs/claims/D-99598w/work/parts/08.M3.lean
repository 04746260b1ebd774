set_option maxRecDepth 100000
def fX2_tens_B4 (k : Nat) (v0 : Int32) (a : Int64 × Int32) : Option ((Int64 × Int32) ⊕ Int64) := if v0 ≤ a.2 then (some (.inr a.1)) else (some (.inl ((a.1 * (10 : Int64)), (a.2 + (1 : Int32)))))
set_option maxHeartbeats 1000000 in
theorem wX2_tens_B4 {p : Program} {l : Launch} {e : Env} {s : State} {m : MethodId} {args : Array Value} {below : List Frame} {meth : Method} {c : Code} {Q : State → Prop} (k : Nat) (v0 : Int32) (hC : sC RX2 cX2_tens 4 (some .long) p s m args meth c) (a : Int64 × Int32) (y : (Int64 × Int32) ⊕ Int64) (hE : fX2_tens_B4 k v0 a = some y) (hc : ∀ a : Int64 × Int32, y = .inl a → sW p l e rmX2_tens s m args below meth c 4 Q 4 [(0, .int v0), (1, .long a.1), (3, .int a.2)] []) (hx1 : ∀ b : Int64, y = .inr b → sW p l e rmX2_tens s m args below meth c 4 Q 21 [(1, .long b)] []) : sW p l e rmX2_tens s m args below meth c 4 Q 4 [(0, .int v0), (1, .long a.1), (3, .int a.2)] [] := by
  intro ls hl
  have hx := hC.1
  have hb := hC.2.1
  have hown := hC.2.2.2.2.2.1
  have hts := hC.2.2.2.2.2.2
  unfold fX2_tens_B4 at hE
  refine lv_iload_n hx hb dX2_tens_4 rfl (lv_at hl 2 rfl) ?_
  refine lv_iload_n hx hb dX2_tens_5 rfl (lv_at hl 0 rfl) ?_
  refine lv_icmp_ge (tgt := 21) hx hb dX2_tens_6 (by decide) (fun c_1 => ?_) (fun c_1 => ?_)
  · have hE := ip c_1 hE
    exact hx1 _ (Option.some.inj hE).symm ls (lv_sub hl [1] rfl)
  · have hE := iq c_1 hE
    refine lv_lload_n hx hb dX2_tens_9 rfl (lv_at hl 1 rfl) ?_
    refine lv_ldc2 (v := 10) hx hb hown (hts _ q1866) dX2_tens_10 ?_
    refine lv_lmul hx hb dX2_tens_13 ?_
    refine lv_lstore_n (lv' := [(1, .long (a.1 * (10 : Int64))), (0, .int v0), (3, .int a.2)]) hx hb dX2_tens_14 rfl hl (Nat.le_of_ble_eq_true rfl) rfl (fun ls hl => ?_)
    refine lv_iinc (v := (a.2 + (1 : Int32))) (lv' := [(3, .int (a.2 + (1 : Int32))), (1, .long (a.1 * (10 : Int64))), (0, .int v0)]) hx hb dX2_tens_15 hl (k := 2) rfl rfl (Nat.le_of_ble_eq_true rfl) rfl (fun ls hl => ?_)
    refine lv_goto (tgt := 4) hx hb dX2_tens_18 (by decide) ?_
    exact hc _ (Option.some.inj hE).symm ls (lv_sub hl [2, 1, 0] rfl)
def fX2_tens (k : Nat) (x0 : Int32) : Option Int64 := (lpo (fX2_tens_B4 k x0) k ((1 : Int64), (0 : Int32))).bind fun x_2 => some x_2
set_option maxHeartbeats 1000000 in
theorem wX2_tens {l : Launch} (k : Nat) (x0 : Int32) (y : Int64) (hE : fX2_tens k x0 = some y) : sM l yX2_tens (ws_ yX2_tens cX2_tens 4 (some .long)) rmX2_tens [.int x0] (some (.long y)) := by
  refine s_met (own := RX2) (by decide) rfl (Nat.le_of_ble_eq_true rfl) (fun p e s m args below meth c hC => ?_)
  intro ls hl
  have hx := hC.1
  have hb := hC.2.1
  have hown := hC.2.2.2.2.2.1
  have hts := hC.2.2.2.2.2.2
  have hl : lv_has ls 4 [(0, .int x0)] := hl
  unfold fX2_tens at hE
  refine lv_lconst (v := 1) hx hb dX2_tens_0 (by decide) ?_
  refine lv_lstore_n (lv' := [(1, .long (1 : Int64)), (0, .int x0)]) hx hb dX2_tens_1 rfl hl (Nat.le_of_ble_eq_true rfl) rfl (fun ls hl => ?_)
  refine lv_iconst (v := 0) hx hb dX2_tens_2 (by decide) ?_
  refine lv_istore_n (lv' := [(3, .int (0 : Int32)), (1, .long (1 : Int64)), (0, .int x0)]) hx hb dX2_tens_3 rfl hl (Nat.le_of_ble_eq_true rfl) rfl (fun ls hl => ?_)
  obtain ⟨x_2, h_2, hE⟩ := ob hE
  refine lpo_walk (fun p_2 : Int64 × Int32 => sW p l e rmX2_tens s m args below meth c 4 (sQ below args s (some (.long y))) 4 [(0, .int x0), (1, .long p_2.1), (3, .int p_2.2)] []) (fun q_2 : Int64 => sW p l e rmX2_tens s m args below meth c 4 (sQ below args s (some (.long y))) 21 [(1, .long q_2)] []) (fun a_2 y_2 hB_2 hc_2 hx_2 => wX2_tens_B4 k x0 hC a_2 y_2 hB_2 hc_2 hx_2) _ _ x_2 h_2 ?_ ls (lv_sub hl [2, 1, 0] rfl)
  intro ls hl
  refine lv_lload_n hx hb dX2_tens_21 rfl (lv_at hl 0 rfl) ?_
  obtain rfl := Option.some.inj hE
  exact s_lret hC dX2_tens_22
def fX2_divisor_B6 (k : Nat)  (a : Int64 × Int64) : Option ((Int64 × Int64) ⊕ Int64) := if (lg_cmp a.2 (0 : Int64)) = 0 then (some (.inr a.1)) else (if a.2 = (0 : Int64) then none else some (.inl (a.2, (a.1 - a.1 / a.2 * a.2))))
set_option maxHeartbeats 1000000 in
theorem wX2_divisor_B6 {p : Program} {l : Launch} {e : Env} {s : State} {m : MethodId} {args : Array Value} {below : List Frame} {meth : Method} {c : Code} {Q : State → Prop} (k : Nat)  (hC : sC RX2 cX2_divisor 10 (some .long) p s m args meth c) (a : Int64 × Int64) (y : (Int64 × Int64) ⊕ Int64) (hE : fX2_divisor_B6 k  a = some y) (hc : ∀ a : Int64 × Int64, y = .inl a → sW p l e rmX2_divisor s m args below meth c 10 Q 6 [(4, .long a.1), (6, .long a.2)] []) (hx1 : ∀ b : Int64, y = .inr b → sW p l e rmX2_divisor s m args below meth c 10 Q 31 [(4, .long b)] []) : sW p l e rmX2_divisor s m args below meth c 10 Q 6 [(4, .long a.1), (6, .long a.2)] [] := by
  intro ls hl
  have hx := hC.1
  have hb := hC.2.1
  have hown := hC.2.2.2.2.2.1
  have hts := hC.2.2.2.2.2.2
  unfold fX2_divisor_B6 at hE
  refine lv_lload hx hb dX2_divisor_6 (lv_at hl 1 rfl) ?_
  refine lv_lconst (v := 0) hx hb dX2_divisor_8 (by decide) ?_
  refine W.lcmp hx hb dX2_divisor_9 ?_
  refine lv_if_eq (tgt := 31) hx hb dX2_divisor_10 (by decide) (fun c_1 => ?_) (fun c_1 => ?_)
  · have hE := ip c_1 hE
    exact hx1 _ (Option.some.inj hE).symm ls (lv_sub hl [0] rfl)
  · have hE := iq c_1 hE
    refine lv_lload hx hb dX2_divisor_13 (lv_at hl 0 rfl) ?_
    refine lv_lload hx hb dX2_divisor_15 (lv_at hl 1 rfl) ?_
    obtain ⟨c_2, hE⟩ := og hE
    refine lv_lrem hx hb dX2_divisor_17 c_2 ?_
    refine lv_lstore (lv' := [(8, .long (a.1 - a.1 / a.2 * a.2)), (4, .long a.1), (6, .long a.2)]) hx hb dX2_divisor_18 hl (Nat.le_of_ble_eq_true rfl) rfl (fun ls hl => ?_)
    refine lv_lload hx hb dX2_divisor_20 (lv_at hl 2 rfl) ?_
    refine lv_lstore (lv' := [(4, .long a.2), (8, .long (a.1 - a.1 / a.2 * a.2)), (6, .long a.2)]) hx hb dX2_divisor_22 hl (Nat.le_of_ble_eq_true rfl) rfl (fun ls hl => ?_)
    refine lv_lload hx hb dX2_divisor_24 (lv_at hl 1 rfl) ?_
    refine lv_lstore (lv' := [(6, .long (a.1 - a.1 / a.2 * a.2)), (4, .long a.2), (8, .long (a.1 - a.1 / a.2 * a.2))]) hx hb dX2_divisor_26 hl (Nat.le_of_ble_eq_true rfl) rfl (fun ls hl => ?_)
    refine lv_goto (tgt := 6) hx hb dX2_divisor_28 (by decide) ?_
    exact hc _ (Option.some.inj hE).symm ls (lv_sub hl [1, 0] rfl)
def fX2_divisor (k : Nat) (x0 : Int64) (x2 : Int64) : Option Int64 := (lpo (fX2_divisor_B6 k ) k (x0, x2)).bind fun x_3 => some x_3
set_option maxHeartbeats 1000000 in
theorem wX2_divisor {l : Launch} (k : Nat) (x0 : Int64) (x2 : Int64) (y : Int64) (hE : fX2_divisor k x0 x2 = some y) : sM l yX2_divisor (ws_ yX2_divisor cX2_divisor 10 (some .long)) rmX2_divisor [.long x0, .long x2] (some (.long y)) := by
  refine s_met (own := RX2) (by decide) rfl (Nat.le_of_ble_eq_true rfl) (fun p e s m args below meth c hC => ?_)
  intro ls hl
  have hx := hC.1
  have hb := hC.2.1
  have hown := hC.2.2.2.2.2.1
  have hts := hC.2.2.2.2.2.2
  have hl : lv_has ls 10 [(0, .long x0), (2, .long x2)] := hl
  unfold fX2_divisor at hE
  refine lv_lload_n hx hb dX2_divisor_0 rfl (lv_at hl 0 rfl) ?_
  refine lv_lstore (lv' := [(4, .long x0), (0, .long x0), (2, .long x2)]) hx hb dX2_divisor_1 hl (Nat.le_of_ble_eq_true rfl) rfl (fun ls hl => ?_)
  refine lv_lload_n hx hb dX2_divisor_3 rfl (lv_at hl 2 rfl) ?_
  refine lv_lstore (lv' := [(6, .long x2), (4, .long x0), (0, .long x0), (2, .long x2)]) hx hb dX2_divisor_4 hl (Nat.le_of_ble_eq_true rfl) rfl (fun ls hl => ?_)
  obtain ⟨x_3, h_3, hE⟩ := ob hE
  refine lpo_walk (fun p_3 : Int64 × Int64 => sW p l e rmX2_divisor s m args below meth c 10 (sQ below args s (some (.long y))) 6 [(4, .long p_3.1), (6, .long p_3.2)] []) (fun q_3 : Int64 => sW p l e rmX2_divisor s m args below meth c 10 (sQ below args s (some (.long y))) 31 [(4, .long q_3)] []) (fun a_3 y_3 hB_3 hc_3 hx_3 => wX2_divisor_B6 k  hC a_3 y_3 hB_3 hc_3 hx_3) _ _ x_3 h_3 ?_ ls (lv_sub hl [1, 0] rfl)
  intro ls hl
  refine lv_lload hx hb dX2_divisor_31 (lv_at hl 0 rfl) ?_
  obtain rfl := Option.some.inj hE
  exact s_lret hC dX2_divisor_33
def fX2_part_J10 (k : Nat) (x0 : Int64) (x2 : Int64) (t0 : Int64) : Option (Int64) := (fX2_divisor k x0 x2).bind fun r_2 => if r_2 = (0 : Int64) then none else some (t0 / r_2)
set_option maxHeartbeats 1000000 in
theorem wX2_part_J10 {p : Program} {l : Launch} {e : Env} {s : State} {m : MethodId} {args : Array Value} {below : List Frame} {meth : Method} {c : Code} (k : Nat) (x0 : Int64) (x2 : Int64) (t0 : Int64) (hC : sC RX2 cX2_part 5 (some .long) p s m args meth c) (y : Int64) (hE : fX2_part_J10 k x0 x2 t0 = some y) : sW p l e rmX2_part s m args below meth c 5 (sQ below args s (some (.long y))) 10 [(0, .long x0), (2, .long x2)] [.long t0] := by
  intro ls hl
  have hx := hC.1
  have hb := hC.2.1
  have hown := hC.2.2.2.2.2.1
  have hts := hC.2.2.2.2.2.2
  unfold fX2_part_J10 at hE
  refine lv_lload_n hx hb dX2_part_10 rfl (lv_at hl 0 rfl) ?_
  refine lv_lload_n hx hb dX2_part_11 rfl (lv_at hl 1 rfl) ?_
  obtain ⟨r_2, h_2, hE⟩ := ob hE
  refine s_calll [.long x0, .long x2] hC hl.1 (wX2_divisor k x0 x2 r_2 h_2) (va_cwS 2 hts lkX2_384 rfl rfl rfl cdX2_divisor ⟨Nat.le_of_ble_eq_true rfl, Nat.le_of_ble_eq_true rfl⟩) rfl rfl (lv_room (Nat.le_of_ble_eq_true rfl)) ⟨Nat.zero_le _, Nat.zero_le _⟩ dX2_part_12 ?_
  obtain ⟨c_3, hE⟩ := og hE
  refine lv_ldiv hx hb dX2_part_15 c_3 ?_
  obtain rfl := Option.some.inj hE
  exact s_lret hC dX2_part_16
def fX2_part (k : Nat) (x0 : Int64) (x2 : Int64) (x4 : Int32) : Option Int64 := if x4 = 0 then ((fX2_part_J10 k x0 x2 x0)) else ((fX2_part_J10 k x0 x2 x2))
set_option maxHeartbeats 1000000 in
theorem wX2_part {l : Launch} (k : Nat) (x0 : Int64) (x2 : Int64) (x4 : Int32) (y : Int64) (hE : fX2_part k x0 x2 x4 = some y) : sM l yX2_part (ws_ yX2_part cX2_part 5 (some .long)) rmX2_part [.long x0, .long x2, .int x4] (some (.long y)) := by
  refine s_met (own := RX2) (by decide) rfl (Nat.le_of_ble_eq_true rfl) (fun p e s m args below meth c hC => ?_)
  intro ls hl
  have hx := hC.1
  have hb := hC.2.1
  have hown := hC.2.2.2.2.2.1
  have hts := hC.2.2.2.2.2.2
  have hl : lv_has ls 5 [(0, .long x0), (2, .long x2), (4, .int x4)] := hl
  unfold fX2_part at hE
  refine lv_iload hx hb dX2_part_0 (lv_at hl 2 rfl) ?_
  refine lv_if_eq (tgt := 9) hx hb dX2_part_2 (by decide) (fun c_1 => ?_) (fun c_1 => ?_)
  · have hE := ip c_1 hE
    refine lv_lload_n hx hb dX2_part_9 rfl (lv_at hl 0 rfl) ?_
    exact wX2_part_J10 k x0 x2 x0 hC y hE ls (lv_sub hl [0, 1] rfl)
  · have hE := iq c_1 hE
    refine lv_lload_n hx hb dX2_part_5 rfl (lv_at hl 1 rfl) ?_
    refine lv_goto (tgt := 10) hx hb dX2_part_6 (by decide) ?_
    exact wX2_part_J10 k x0 x2 x2 hC y hE ls (lv_sub hl [0, 1] rfl)
def fX2_likely (k : Nat) (z : MS) (x1 : Int32) (x2 : Int32) (x3 : Int32) (x4 : Int32) : Option (Int64 × MS) := (fX2_areRunning z x1 x2).bind fun r_1 => if r_1 = 0 then (some ((-1 : Int64), z)) else ((fX2_isIn x3 (0 : Int32) (12 : Int32)).bind fun r_3 => if r_3 = 0 then (some ((-1 : Int64), z)) else ((fX2_weightOf k z x1 x2 x3).bind fun r_5 => (fX2_tens k x3).bind fun r_6 => (fX2_part k r_5.1 r_6 x4).bind fun r_7 => some (r_7, r_5.2)))
set_option maxHeartbeats 1000000 in
theorem wX2_likely {l : Launch} {E : ME} (k : Nat) (z : MS) (x1 : Int32) (x2 : Int32) (x3 : Int32) (x4 : Int32) (y : Int64 × MS) (hE : fX2_likely k z x1 x2 x3 x4 = some y) : mM l yX2_likely (ws_ yX2_likely cX2_likely 5 (some .long)) rmX2_likely E z [.int x1, .int x2, .int x3, .int x4] (some (.long y.1)) y.2 := by
  refine m_met (by decide) rfl (Nat.le_of_ble_eq_true rfl) (fun p e s m args below meth c hC => ?_)
  intro H locs ls hP hS hl
  have hx := hC.1
  have hb := hC.2.1
  have hown := hC.2.2.2.2.2.1
  have hts := hC.2.2.2.2.2.2.1
  have hl : lv_has ls 5 [(0, .ref (E.2.2.2.1 0)), (1, .int x1), (2, .int x2), (3, .int x3), (4, .int x4)] := hl
  unfold fX2_likely at hE
  refine lv_aload_n hx hb dX2_likely_0 rfl (lv_at hl 0 rfl) ?_
  refine lv_iload_n hx hb dX2_likely_1 rfl (lv_at hl 1 rfl) ?_
  refine lv_iload_n hx hb dX2_likely_2 rfl (lv_at hl 2 rfl) ?_
  obtain ⟨r_1, h_1, hE⟩ := ob hE
  refine m_calli [.int x1, .int x2] hC hP hS hl.1 (wX2_areRunning z x1 x2 r_1 h_1) (cwV 2 hts lkX2_387 rfl rfl rfl cdX2_areRunning ⟨Nat.le_of_ble_eq_true rfl, Nat.le_of_ble_eq_true rfl⟩) rfl rfl (lv_room (Nat.le_of_ble_eq_true rfl)) dX2_likely_3 (fun H locs hP hS => ?_)
  refine lv_if_eq (tgt := 38) hx hb dX2_likely_6 (by decide) (fun c_2 => ?_) (fun c_2 => ?_)
  · have hE := ip c_2 hE
    refine lv_ldc2 (v := -1) hx hb hown (hts _ q1873) dX2_likely_38 ?_
    obtain rfl := Option.some.inj hE
    exact m_lret hC hP hS dX2_likely_41
  · have hE := iq c_2 hE
    refine lv_iload_n hx hb dX2_likely_9 rfl (lv_at hl 3 rfl) ?_
    refine lv_iconst (v := 0) hx hb dX2_likely_10 (by decide) ?_
    refine lv_bipush (v := 12) hx hb dX2_likely_11 (by decide) ?_
    obtain ⟨r_3, h_3, hE⟩ := ob hE
    refine s_calli [.int x3, .int (0 : Int32), .int (12 : Int32)] hC.sC hl.1 (wX2_isIn x3 (0 : Int32) (12 : Int32) r_3 h_3) (va_cwS 3 hts lkX2_69 rfl rfl rfl cdX2_isIn ⟨Nat.le_of_ble_eq_true rfl, Nat.le_of_ble_eq_true rfl⟩) rfl rfl (lv_room (Nat.le_of_ble_eq_true rfl)) ⟨Nat.zero_le _, Nat.zero_le _⟩ dX2_likely_13 ?_
    refine lv_if_eq (tgt := 38) hx hb dX2_likely_16 (by decide) (fun c_4 => ?_) (fun c_4 => ?_)
    · have hE := ip c_4 hE
      refine lv_ldc2 (v := -1) hx hb hown (hts _ q1873) dX2_likely_38 ?_
      obtain rfl := Option.some.inj hE
      exact m_lret hC hP hS dX2_likely_41
    · have hE := iq c_4 hE
      refine lv_aload_n hx hb dX2_likely_19 rfl (lv_at hl 0 rfl) ?_
      refine lv_iload_n hx hb dX2_likely_20 rfl (lv_at hl 1 rfl) ?_
      refine lv_iload_n hx hb dX2_likely_21 rfl (lv_at hl 2 rfl) ?_
      refine lv_iload_n hx hb dX2_likely_22 rfl (lv_at hl 3 rfl) ?_
      obtain ⟨r_5, h_5, hE⟩ := ob hE
      refine m_calll [.int x1, .int x2, .int x3] hC hP hS hl.1 (wX2_weightOf k z x1 x2 x3 r_5 h_5) (cwV 3 hts lkX2_390 rfl rfl rfl cdX2_weightOf ⟨Nat.le_of_ble_eq_true rfl, Nat.le_of_ble_eq_true rfl⟩) rfl rfl (lv_room (Nat.le_of_ble_eq_true rfl)) dX2_likely_23 (fun H locs hP hS => ?_)
      refine lv_iload_n hx hb dX2_likely_26 rfl (lv_at hl 3 rfl) ?_
      obtain ⟨r_6, h_6, hE⟩ := ob hE
      refine s_calll [.int x3] hC.sC hl.1 (wX2_tens k x3 r_6 h_6) (va_cwS 1 hts lkX2_393 rfl rfl rfl cdX2_tens ⟨Nat.le_of_ble_eq_true rfl, Nat.le_of_ble_eq_true rfl⟩) rfl rfl (lv_room (Nat.le_of_ble_eq_true rfl)) ⟨Nat.zero_le _, Nat.zero_le _⟩ dX2_likely_27 ?_
      refine lv_iload hx hb dX2_likely_30 (lv_at hl 4 rfl) ?_
      obtain ⟨r_7, h_7, hE⟩ := ob hE
      refine s_calll [.long r_5.1, .long r_6, .int x4] hC.sC hl.1 (wX2_part k r_5.1 r_6 x4 r_7 h_7) (va_cwS 3 hts lkX2_397 rfl rfl rfl cdX2_part ⟨Nat.le_of_ble_eq_true rfl, Nat.le_of_ble_eq_true rfl⟩) rfl rfl (lv_room (Nat.le_of_ble_eq_true rfl)) ⟨Nat.zero_le _, Nat.zero_le _⟩ dX2_likely_32 ?_
      refine lv_goto (tgt := 41) hx hb dX2_likely_35 (by decide) ?_
      obtain rfl := Option.some.inj hE
      exact m_lret hC hP hS dX2_likely_41
def fX2_start_B28 (k : Nat) (v1 : Int32) (v2 : Int32) (a : Int32 × Int64 × Int32 × MS) : Option ((Int32 × Int64 × Int32 × MS) ⊕ (Int32 × MS)) := if (30 : Int32) ≤ a.2.2.1 then (some (.inr (a.1, a.2.2.2))) else ((fX2_weightOf k a.2.2.2 v1 a.2.2.1 v2).bind fun r_6 => if 0 < (lg_cmp r_6.1 a.2.1) then (some (.inl (a.2.2.1, r_6.1, (a.2.2.1 + (1 : Int32)), r_6.2))) else (some (.inl (a.1, a.2.1, (a.2.2.1 + (1 : Int32)), r_6.2))))
set_option maxHeartbeats 1000000 in
theorem wX2_start_B28 {p : Program} {l : Launch} {e : Env} {s : State} {m : MethodId} {args : Array Value} {below : List Frame} {meth : Method} {c : Code} {E : ME} {Q : State → Prop} (k : Nat) (v1 : Int32) (v2 : Int32) (hC : mC E cX2_start 9 (some .int) p s m args meth c) (a : Int32 × Int64 × Int32 × MS) (y : (Int32 × Int64 × Int32 × MS) ⊕ (Int32 × MS)) (hE : fX2_start_B28 k v1 v2 a = some y) (hc : ∀ a : Int32 × Int64 × Int32 × MS, y = .inl a → mW p l e rmX2_start s m args below meth c E 9 Q 28 [(0, .ref (E.2.2.2.1 0)), (1, .int v1), (2, .int v2), (3, .int a.1), (4, .long a.2.1), (6, .int a.2.2.1)] [] a.2.2.2) (hx1 : ∀ b : Int32 × MS, y = .inr b → mW p l e rmX2_start s m args below meth c E 9 Q 69 [(3, .int b.1)] [] b.2) : mW p l e rmX2_start s m args below meth c E 9 Q 28 [(0, .ref (E.2.2.2.1 0)), (1, .int v1), (2, .int v2), (3, .int a.1), (4, .long a.2.1), (6, .int a.2.2.1)] [] a.2.2.2 := by
  intro H locs ls hP hS hl
  have hx := hC.1
  have hb := hC.2.1
  have hown := hC.2.2.2.2.2.1
  have hts := hC.2.2.2.2.2.2.1
  unfold fX2_start_B28 at hE
  refine lv_iload hx hb dX2_start_28 (lv_at hl 5 rfl) ?_
  refine lv_bipush (v := 30) hx hb dX2_start_30 (by decide) ?_
  refine lv_icmp_ge (tgt := 69) hx hb dX2_start_32 (by decide) (fun c_5 => ?_) (fun c_5 => ?_)
  · have hE := ip c_5 hE
    exact hx1 _ (Option.some.inj hE).symm H locs ls hP hS (lv_sub hl [3] rfl)
  · have hE := iq c_5 hE
    refine lv_aload_n hx hb dX2_start_35 rfl (lv_at hl 0 rfl) ?_
    refine lv_iload_n hx hb dX2_start_36 rfl (lv_at hl 1 rfl) ?_
    refine lv_iload hx hb dX2_start_37 (lv_at hl 5 rfl) ?_
    refine lv_iload_n hx hb dX2_start_39 rfl (lv_at hl 2 rfl) ?_
    obtain ⟨r_6, h_6, hE⟩ := ob hE
    refine m_calll [.int v1, .int a.2.2.1, .int v2] hC hP hS hl.1 (wX2_weightOf k a.2.2.2 v1 a.2.2.1 v2 r_6 h_6) (cwV 3 hts lkX2_390 rfl rfl rfl cdX2_weightOf ⟨Nat.le_of_ble_eq_true rfl, Nat.le_of_ble_eq_true rfl⟩) rfl rfl (lv_room (Nat.le_of_ble_eq_true rfl)) dX2_start_40 (fun H locs hP hS => ?_)
    refine lv_lstore (lv' := [(7, .long r_6.1), (0, .ref (E.2.2.2.1 0)), (1, .int v1), (2, .int v2), (3, .int a.1), (4, .long a.2.1), (6, .int a.2.2.1)]) hx hb dX2_start_43 hl (Nat.le_of_ble_eq_true rfl) rfl (fun ls hl => ?_)
    refine lv_lload hx hb dX2_start_45 (lv_at hl 0 rfl) ?_
    refine lv_lload hx hb dX2_start_47 (lv_at hl 5 rfl) ?_
    refine W.lcmp hx hb dX2_start_49 ?_
    refine lv_if_gt (tgt := 56) hx hb dX2_start_50 (by decide) (fun c_7 => ?_) (fun c_7 => ?_)
    · have hE := ip c_7 hE
      refine lv_lload hx hb dX2_start_56 (lv_at hl 0 rfl) ?_
      refine lv_lstore (lv' := [(4, .long r_6.1), (7, .long r_6.1), (0, .ref (E.2.2.2.1 0)), (1, .int v1), (2, .int v2), (3, .int a.1), (6, .int a.2.2.1)]) hx hb dX2_start_58 hl (Nat.le_of_ble_eq_true rfl) rfl (fun ls hl => ?_)
      refine lv_iload hx hb dX2_start_60 (lv_at hl 6 rfl) ?_
      refine lv_istore_n (lv' := [(3, .int a.2.2.1), (4, .long r_6.1), (7, .long r_6.1), (0, .ref (E.2.2.2.1 0)), (1, .int v1), (2, .int v2), (6, .int a.2.2.1)]) hx hb dX2_start_62 rfl hl (Nat.le_of_ble_eq_true rfl) rfl (fun ls hl => ?_)
      refine lv_iinc (v := (a.2.2.1 + (1 : Int32))) (lv' := [(6, .int (a.2.2.1 + (1 : Int32))), (3, .int a.2.2.1), (4, .long r_6.1), (7, .long r_6.1), (0, .ref (E.2.2.2.1 0)), (1, .int v1), (2, .int v2)]) hx hb dX2_start_63 hl (k := 6) rfl rfl (Nat.le_of_ble_eq_true rfl) rfl (fun ls hl => ?_)
      refine lv_goto (tgt := 28) hx hb dX2_start_66 (by decide) ?_
      exact hc _ (Option.some.inj hE).symm H locs ls hP hS (lv_sub hl [4, 5, 6, 1, 2, 0] rfl)
    · have hE := iq c_7 hE
      refine lv_goto (tgt := 63) hx hb dX2_start_53 (by decide) ?_
      refine lv_iinc (v := (a.2.2.1 + (1 : Int32))) (lv' := [(6, .int (a.2.2.1 + (1 : Int32))), (7, .long r_6.1), (0, .ref (E.2.2.2.1 0)), (1, .int v1), (2, .int v2), (3, .int a.1), (4, .long a.2.1)]) hx hb dX2_start_63 hl (k := 6) rfl rfl (Nat.le_of_ble_eq_true rfl) rfl (fun ls hl => ?_)
      refine lv_goto (tgt := 28) hx hb dX2_start_66 (by decide) ?_
      exact hc _ (Option.some.inj hE).symm H locs ls hP hS (lv_sub hl [2, 3, 4, 5, 6, 0] rfl)
def fX2_start (k : Nat) (z : MS) (x1 : Int32) (x2 : Int32) : Option (Int32 × MS) := (fX2_isChild z x1).bind fun r_1 => if r_1 = 0 then (some ((-1 : Int32), z)) else ((fX2_isIn x2 (0 : Int32) (12 : Int32)).bind fun r_3 => if r_3 = 0 then (some ((-1 : Int32), z)) else ((lpo (fX2_start_B28 k x1 x2) k ((-1 : Int32), (0 : Int64), (0 : Int32), z)).bind fun x_8 => some (x_8.1, x_8.2)))
set_option maxHeartbeats 1000000 in
theorem wX2_start {l : Launch} {E : ME} (k : Nat) (z : MS) (x1 : Int32) (x2 : Int32) (y : Int32 × MS) (hE : fX2_start k z x1 x2 = some y) : mM l yX2_start (ws_ yX2_start cX2_start 9 (some .int)) rmX2_start E z [.int x1, .int x2] (some (.int y.1)) y.2 := by
  refine m_met (by decide) rfl (Nat.le_of_ble_eq_true rfl) (fun p e s m args below meth c hC => ?_)
  intro H locs ls hP hS hl
  have hx := hC.1
  have hb := hC.2.1
  have hown := hC.2.2.2.2.2.1
  have hts := hC.2.2.2.2.2.2.1
  have hl : lv_has ls 9 [(0, .ref (E.2.2.2.1 0)), (1, .int x1), (2, .int x2)] := hl
  unfold fX2_start at hE
  refine lv_aload_n hx hb dX2_start_0 rfl (lv_at hl 0 rfl) ?_
  refine lv_iload_n hx hb dX2_start_1 rfl (lv_at hl 1 rfl) ?_
  obtain ⟨r_1, h_1, hE⟩ := ob hE
  refine m_calli [.int x1] hC hP hS hl.1 (wX2_isChild z x1 r_1 h_1) (cwV 1 hts lkX2_322 rfl rfl rfl cdX2_isChild ⟨Nat.le_of_ble_eq_true rfl, Nat.le_of_ble_eq_true rfl⟩) rfl rfl (lv_room (Nat.le_of_ble_eq_true rfl)) dX2_start_2 (fun H locs hP hS => ?_)
  refine lv_if_eq (tgt := 18) hx hb dX2_start_5 (by decide) (fun c_2 => ?_) (fun c_2 => ?_)
  · have hE := ip c_2 hE
    refine lv_iconst (v := -1) hx hb dX2_start_18 (by decide) ?_
    obtain rfl := Option.some.inj hE
    exact m_iret hC hP hS dX2_start_19
  · have hE := iq c_2 hE
    refine lv_iload_n hx hb dX2_start_8 rfl (lv_at hl 2 rfl) ?_
    refine lv_iconst (v := 0) hx hb dX2_start_9 (by decide) ?_
    refine lv_bipush (v := 12) hx hb dX2_start_10 (by decide) ?_
    obtain ⟨r_3, h_3, hE⟩ := ob hE
    refine s_calli [.int x2, .int (0 : Int32), .int (12 : Int32)] hC.sC hl.1 (wX2_isIn x2 (0 : Int32) (12 : Int32) r_3 h_3) (va_cwS 3 hts lkX2_69 rfl rfl rfl cdX2_isIn ⟨Nat.le_of_ble_eq_true rfl, Nat.le_of_ble_eq_true rfl⟩) rfl rfl (lv_room (Nat.le_of_ble_eq_true rfl)) ⟨Nat.zero_le _, Nat.zero_le _⟩ dX2_start_12 ?_
    refine lv_if_ne (tgt := 20) hx hb dX2_start_15 (by decide) (fun c_4 => ?_) (fun c_4 => ?_)
    · have hE := iq c_4 hE
      refine lv_iconst (v := -1) hx hb dX2_start_20 (by decide) ?_
      refine lv_istore_n (lv' := [(3, .int (-1 : Int32)), (0, .ref (E.2.2.2.1 0)), (1, .int x1), (2, .int x2)]) hx hb dX2_start_21 rfl hl (Nat.le_of_ble_eq_true rfl) rfl (fun ls hl => ?_)
      refine lv_lconst (v := 0) hx hb dX2_start_22 (by decide) ?_
      refine lv_lstore (lv' := [(4, .long (0 : Int64)), (3, .int (-1 : Int32)), (0, .ref (E.2.2.2.1 0)), (1, .int x1), (2, .int x2)]) hx hb dX2_start_23 hl (Nat.le_of_ble_eq_true rfl) rfl (fun ls hl => ?_)
      refine lv_iconst (v := 0) hx hb dX2_start_25 (by decide) ?_
      refine lv_istore (lv' := [(6, .int (0 : Int32)), (4, .long (0 : Int64)), (3, .int (-1 : Int32)), (0, .ref (E.2.2.2.1 0)), (1, .int x1), (2, .int x2)]) hx hb dX2_start_26 hl (Nat.le_of_ble_eq_true rfl) rfl (fun ls hl => ?_)
      obtain ⟨x_8, h_8, hE⟩ := ob hE
      refine lpo_walk (fun p_8 : Int32 × Int64 × Int32 × MS => mW p l e rmX2_start s m args below meth c E 9 (mQ E below args s (some (.int y.1)) y.2) 28 [(0, .ref (E.2.2.2.1 0)), (1, .int x1), (2, .int x2), (3, .int p_8.1), (4, .long p_8.2.1), (6, .int p_8.2.2.1)] [] p_8.2.2.2) (fun q_8 : Int32 × MS => mW p l e rmX2_start s m args below meth c E 9 (mQ E below args s (some (.int y.1)) y.2) 69 [(3, .int q_8.1)] [] q_8.2) (fun a_8 y_8 hB_8 hc_8 hx_8 => wX2_start_B28 k x1 x2 hC a_8 y_8 hB_8 hc_8 hx_8) _ _ x_8 h_8 ?_ H locs ls hP hS (lv_sub hl [3, 4, 5, 2, 1, 0] rfl)
      intro H locs ls hP hS hl
      refine lv_iload_n hx hb dX2_start_69 rfl (lv_at hl 0 rfl) ?_
      obtain rfl := Option.some.inj hE
      exact m_iret hC hP hS dX2_start_70
    · have hE := ip c_4 hE
      refine lv_iconst (v := -1) hx hb dX2_start_18 (by decide) ?_
      obtain rfl := Option.some.inj hE
      exact m_iret hC hP hS dX2_start_19
def fX2_mean_B41 (k : Nat) (v1 : Int32) (v2 : Int32) (v3 : Int32) (v4 : Int32) (a : Int64 × Int32 × MS) : Option ((Int64 × Int32 × MS) ⊕ (Int64 × MS)) := if v4 < a.2.1 then (some (.inr (a.1, a.2.2))) else ((fX2_weightOf k a.2.2 v1 v2 a.2.1).bind fun r_6 => (fX2_tens k (v4 - a.2.1)).bind fun r_7 => some (.inl ((a.1 + ((a.2.1.toInt64 * r_6.1) * r_7)), (a.2.1 + (1 : Int32)), r_6.2)))
set_option maxHeartbeats 1000000 in
theorem wX2_mean_B41 {p : Program} {l : Launch} {e : Env} {s : State} {m : MethodId} {args : Array Value} {below : List Frame} {meth : Method} {c : Code} {E : ME} {Q : State → Prop} (k : Nat) (v1 : Int32) (v2 : Int32) (v3 : Int32) (v4 : Int32) (hC : mC E cX2_mean 8 (some .long) p s m args meth c) (a : Int64 × Int32 × MS) (y : (Int64 × Int32 × MS) ⊕ (Int64 × MS)) (hE : fX2_mean_B41 k v1 v2 v3 v4 a = some y) (hc : ∀ a : Int64 × Int32 × MS, y = .inl a → mW p l e rmX2_mean s m args below meth c E 8 Q 41 [(0, .ref (E.2.2.2.1 0)), (1, .int v1), (2, .int v2), (3, .int v3), (4, .int v4), (5, .long a.1), (7, .int a.2.1)] [] a.2.2) (hx1 : ∀ b : Int64 × MS, y = .inr b → mW p l e rmX2_mean s m args below meth c E 8 Q 80 [(3, .int v3), (4, .int v4), (5, .long b.1)] [] b.2) : mW p l e rmX2_mean s m args below meth c E 8 Q 41 [(0, .ref (E.2.2.2.1 0)), (1, .int v1), (2, .int v2), (3, .int v3), (4, .int v4), (5, .long a.1), (7, .int a.2.1)] [] a.2.2 := by
  intro H locs ls hP hS hl
  have hx := hC.1
  have hb := hC.2.1
  have hown := hC.2.2.2.2.2.1
  have hts := hC.2.2.2.2.2.2.1
  unfold fX2_mean_B41 at hE
  refine lv_iload hx hb dX2_mean_41 (lv_at hl 6 rfl) ?_
  refine lv_iload hx hb dX2_mean_43 (lv_at hl 4 rfl) ?_
  refine lv_icmp_gt (tgt := 80) hx hb dX2_mean_45 (by decide) (fun c_5 => ?_) (fun c_5 => ?_)
  · have hE := ip c_5 hE
    exact hx1 _ (Option.some.inj hE).symm H locs ls hP hS (lv_sub hl [3, 4, 5] rfl)
  · have hE := iq c_5 hE
    refine lv_lload hx hb dX2_mean_48 (lv_at hl 5 rfl) ?_
    refine lv_iload hx hb dX2_mean_50 (lv_at hl 6 rfl) ?_
    refine lv_i2l hx hb dX2_mean_52 rfl ?_
    refine lv_aload_n hx hb dX2_mean_53 rfl (lv_at hl 0 rfl) ?_
    refine lv_iload_n hx hb dX2_mean_54 rfl (lv_at hl 1 rfl) ?_
    refine lv_iload_n hx hb dX2_mean_55 rfl (lv_at hl 2 rfl) ?_
    refine lv_iload hx hb dX2_mean_56 (lv_at hl 6 rfl) ?_
    obtain ⟨r_6, h_6, hE⟩ := ob hE
    refine m_calll [.int v1, .int v2, .int a.2.1] hC hP hS hl.1 (wX2_weightOf k a.2.2 v1 v2 a.2.1 r_6 h_6) (cwV 3 hts lkX2_390 rfl rfl rfl cdX2_weightOf ⟨Nat.le_of_ble_eq_true rfl, Nat.le_of_ble_eq_true rfl⟩) rfl rfl (lv_room (Nat.le_of_ble_eq_true rfl)) dX2_mean_58 (fun H locs hP hS => ?_)
    refine lv_lmul hx hb dX2_mean_61 ?_
    refine lv_iload hx hb dX2_mean_62 (lv_at hl 4 rfl) ?_
    refine lv_iload hx hb dX2_mean_64 (lv_at hl 6 rfl) ?_
    refine lv_isub hx hb dX2_mean_66 ?_
    obtain ⟨r_7, h_7, hE⟩ := ob hE
    refine s_calll [.int (v4 - a.2.1)] hC.sC hl.1 (wX2_tens k (v4 - a.2.1) r_7 h_7) (va_cwS 1 hts lkX2_393 rfl rfl rfl cdX2_tens ⟨Nat.le_of_ble_eq_true rfl, Nat.le_of_ble_eq_true rfl⟩) rfl rfl (lv_room (Nat.le_of_ble_eq_true rfl)) ⟨Nat.zero_le _, Nat.zero_le _⟩ dX2_mean_67 ?_
    refine lv_lmul hx hb dX2_mean_70 ?_
    refine lv_ladd hx hb dX2_mean_71 ?_
    refine lv_lstore (lv' := [(5, .long (a.1 + ((a.2.1.toInt64 * r_6.1) * r_7))), (0, .ref (E.2.2.2.1 0)), (1, .int v1), (2, .int v2), (3, .int v3), (4, .int v4), (7, .int a.2.1)]) hx hb dX2_mean_72 hl (Nat.le_of_ble_eq_true rfl) rfl (fun ls hl => ?_)
    refine lv_iinc (v := (a.2.1 + (1 : Int32))) (lv' := [(7, .int (a.2.1 + (1 : Int32))), (5, .long (a.1 + ((a.2.1.toInt64 * r_6.1) * r_7))), (0, .ref (E.2.2.2.1 0)), (1, .int v1), (2, .int v2), (3, .int v3), (4, .int v4)]) hx hb dX2_mean_74 hl (k := 6) rfl rfl (Nat.le_of_ble_eq_true rfl) rfl (fun ls hl => ?_)
    refine lv_goto (tgt := 41) hx hb dX2_mean_77 (by decide) ?_
    exact hc _ (Option.some.inj hE).symm H locs ls hP hS (lv_sub hl [2, 3, 4, 5, 6, 1, 0] rfl)
def fX2_mean (k : Nat) (z : MS) (x1 : Int32) (x2 : Int32) (x3 : Int32) : Option (Int64 × MS) := (fX2_areRunning z x1 x2).bind fun r_1 => if r_1 = 0 then (some ((-1 : Int64), z)) else ((fX2_layBars k z x2).bind fun r_3 => if (r_3.1 27) ≤ (12 : Int32) then ((lpo (fX2_mean_B41 k x1 x2 x3 (r_3.1 27)) k ((0 : Int64), (1 : Int32), r_3)).bind fun x_8 => (fX2_tens k (r_3.1 27)).bind fun r_9 => (fX2_part k x_8.1 r_9 x3).bind fun r_10 => some (r_10, x_8.2)) else (some ((-1 : Int64), r_3)))
set_option maxHeartbeats 1000000 in
theorem wX2_mean {l : Launch} {E : ME} (k : Nat) (z : MS) (x1 : Int32) (x2 : Int32) (x3 : Int32) (y : Int64 × MS) (hE : fX2_mean k z x1 x2 x3 = some y) : mM l yX2_mean (ws_ yX2_mean cX2_mean 8 (some .long)) rmX2_mean E z [.int x1, .int x2, .int x3] (some (.long y.1)) y.2 := by
  refine m_met (by decide) rfl (Nat.le_of_ble_eq_true rfl) (fun p e s m args below meth c hC => ?_)
  intro H locs ls hP hS hl
  have hx := hC.1
  have hb := hC.2.1
  have hown := hC.2.2.2.2.2.1
  have hts := hC.2.2.2.2.2.2.1
  have hl : lv_has ls 8 [(0, .ref (E.2.2.2.1 0)), (1, .int x1), (2, .int x2), (3, .int x3)] := hl
  unfold fX2_mean at hE
  refine lv_aload_n hx hb dX2_mean_0 rfl (lv_at hl 0 rfl) ?_
  refine lv_iload_n hx hb dX2_mean_1 rfl (lv_at hl 1 rfl) ?_
  refine lv_iload_n hx hb dX2_mean_2 rfl (lv_at hl 2 rfl) ?_
  obtain ⟨r_1, h_1, hE⟩ := ob hE
  refine m_calli [.int x1, .int x2] hC hP hS hl.1 (wX2_areRunning z x1 x2 r_1 h_1) (cwV 2 hts lkX2_387 rfl rfl rfl cdX2_areRunning ⟨Nat.le_of_ble_eq_true rfl, Nat.le_of_ble_eq_true rfl⟩) rfl rfl (lv_room (Nat.le_of_ble_eq_true rfl)) dX2_mean_3 (fun H locs hP hS => ?_)
  refine lv_if_ne (tgt := 13) hx hb dX2_mean_6 (by decide) (fun c_2 => ?_) (fun c_2 => ?_)
  · have hE := iq c_2 hE
    refine lv_aload_n hx hb dX2_mean_13 rfl (lv_at hl 0 rfl) ?_
    refine lv_iload_n hx hb dX2_mean_14 rfl (lv_at hl 2 rfl) ?_
    obtain ⟨r_3, h_3, hE⟩ := ob hE
    refine m_callv [.int x2] hC hP hS hl.1 (wX2_layBars k z x2 r_3 h_3) (cwV 1 hts lkX2_376 rfl rfl rfl cdX2_layBars ⟨Nat.le_of_ble_eq_true rfl, Nat.le_of_ble_eq_true rfl⟩) rfl rfl (lv_room (Nat.le_of_ble_eq_true rfl)) dX2_mean_15 (fun H locs hP hS => ?_)
    refine lv_aload_n hx hb dX2_mean_18 rfl (lv_at hl 0 rfl) ?_
    refine gM_373 hC hP dX2_mean_19 ?_
    refine lv_istore (lv' := [(4, .int (r_3.1 27)), (0, .ref (E.2.2.2.1 0)), (1, .int x1), (2, .int x2), (3, .int x3)]) hx hb dX2_mean_22 hl (Nat.le_of_ble_eq_true rfl) rfl (fun ls hl => ?_)
    refine lv_iload hx hb dX2_mean_24 (lv_at hl 0 rfl) ?_
    refine lv_bipush (v := 12) hx hb dX2_mean_26 (by decide) ?_
    refine lv_icmp_le (tgt := 35) hx hb dX2_mean_28 (by decide) (fun c_4 => ?_) (fun c_4 => ?_)
    · have hE := ip c_4 hE
      refine lv_lconst (v := 0) hx hb dX2_mean_35 (by decide) ?_
      refine lv_lstore (lv' := [(5, .long (0 : Int64)), (4, .int (r_3.1 27)), (0, .ref (E.2.2.2.1 0)), (1, .int x1), (2, .int x2), (3, .int x3)]) hx hb dX2_mean_36 hl (Nat.le_of_ble_eq_true rfl) rfl (fun ls hl => ?_)
      refine lv_iconst (v := 1) hx hb dX2_mean_38 (by decide) ?_
      refine lv_istore (lv' := [(7, .int (1 : Int32)), (5, .long (0 : Int64)), (4, .int (r_3.1 27)), (0, .ref (E.2.2.2.1 0)), (1, .int x1), (2, .int x2), (3, .int x3)]) hx hb dX2_mean_39 hl (Nat.le_of_ble_eq_true rfl) rfl (fun ls hl => ?_)
      obtain ⟨x_8, h_8, hE⟩ := ob hE
      refine lpo_walk (fun p_8 : Int64 × Int32 × MS => mW p l e rmX2_mean s m args below meth c E 8 (mQ E below args s (some (.long y.1)) y.2) 41 [(0, .ref (E.2.2.2.1 0)), (1, .int x1), (2, .int x2), (3, .int x3), (4, .int (r_3.1 27)), (5, .long p_8.1), (7, .int p_8.2.1)] [] p_8.2.2) (fun q_8 : Int64 × MS => mW p l e rmX2_mean s m args below meth c E 8 (mQ E below args s (some (.long y.1)) y.2) 80 [(3, .int x3), (4, .int (r_3.1 27)), (5, .long q_8.1)] [] q_8.2) (fun a_8 y_8 hB_8 hc_8 hx_8 => wX2_mean_B41 k x1 x2 x3 (r_3.1 27) hC a_8 y_8 hB_8 hc_8 hx_8) _ _ x_8 h_8 ?_ H locs ls hP hS (lv_sub hl [3, 4, 5, 6, 2, 1, 0] rfl)
      intro H locs ls hP hS hl
      refine lv_lload hx hb dX2_mean_80 (lv_at hl 2 rfl) ?_
      refine lv_iload hx hb dX2_mean_82 (lv_at hl 1 rfl) ?_
      obtain ⟨r_9, h_9, hE⟩ := ob hE
      refine s_calll [.int (r_3.1 27)] hC.sC hl.1 (wX2_tens k (r_3.1 27) r_9 h_9) (va_cwS 1 hts lkX2_393 rfl rfl rfl cdX2_tens ⟨Nat.le_of_ble_eq_true rfl, Nat.le_of_ble_eq_true rfl⟩) rfl rfl (lv_room (Nat.le_of_ble_eq_true rfl)) ⟨Nat.zero_le _, Nat.zero_le _⟩ dX2_mean_84 ?_
      refine lv_iload_n hx hb dX2_mean_87 rfl (lv_at hl 0 rfl) ?_
      obtain ⟨r_10, h_10, hE⟩ := ob hE
      refine s_calll [.long x_8.1, .long r_9, .int x3] hC.sC hl.1 (wX2_part k x_8.1 r_9 x3 r_10 h_10) (va_cwS 3 hts lkX2_397 rfl rfl rfl cdX2_part ⟨Nat.le_of_ble_eq_true rfl, Nat.le_of_ble_eq_true rfl⟩) rfl rfl (lv_room (Nat.le_of_ble_eq_true rfl)) ⟨Nat.zero_le _, Nat.zero_le _⟩ dX2_mean_88 ?_
      obtain rfl := Option.some.inj hE
      exact m_lret hC hP hS dX2_mean_91
    · have hE := iq c_4 hE
      refine lv_ldc2 (v := -1) hx hb hown (hts _ q1873) dX2_mean_31 ?_
      obtain rfl := Option.some.inj hE
      exact m_lret hC hP hS dX2_mean_34
  · have hE := ip c_2 hE
    refine lv_ldc2 (v := -1) hx hb hown (hts _ q1873) dX2_mean_9 ?_
    obtain rfl := Option.some.inj hE
    exact m_lret hC hP hS dX2_mean_12
def fX2_which_B36 (k : Nat) (v1 : Int32) (v2 : Int32) (v3 : Int32) (a : Int32 × Int64 × Int32 × MS) : Option ((Int32 × Int64 × Int32 × MS) ⊕ (Int32 × MS)) := if (30 : Int32) ≤ a.2.2.1 then (some (.inr (a.1, a.2.2.2))) else ((fX2_isBar a.2.2.2 a.2.2.1).bind fun r_7 => if r_7 = 0 then (some (.inl (a.1, a.2.1, (a.2.2.1 + (1 : Int32)), a.2.2.2))) else (if ib ((9 : Int32) + a.2.2.1) 3205 then none else (nm (mA a.2.2.2 0 (upd (a.2.2.2.2.2.1 0) ((9 : Int32) + a.2.2.1).toNatClampNeg (0 : Int32))) fun z_9 => (fX2_weightOf k z_9 v1 v2 v3).bind fun r_10 => if ib ((9 : Int32) + a.2.2.1) 3205 then none else (nm (mA r_10.2 0 (upd (r_10.2.2.2.1 0) ((9 : Int32) + a.2.2.1).toNatClampNeg (1 : Int32))) fun z_11 => if 0 < (lg_cmp r_10.1 a.2.1) then (some (.inl (a.2.2.1, r_10.1, (a.2.2.1 + (1 : Int32)), z_11))) else (some (.inl (a.1, a.2.1, (a.2.2.1 + (1 : Int32)), z_11)))))))
set_option maxHeartbeats 1000000 in
theorem wX2_which_B36 {p : Program} {l : Launch} {e : Env} {s : State} {m : MethodId} {args : Array Value} {below : List Frame} {meth : Method} {c : Code} {E : ME} {Q : State → Prop} (k : Nat) (v1 : Int32) (v2 : Int32) (v3 : Int32) (hC : mC E cX2_which 10 (some .int) p s m args meth c) (a : Int32 × Int64 × Int32 × MS) (y : (Int32 × Int64 × Int32 × MS) ⊕ (Int32 × MS)) (hE : fX2_which_B36 k v1 v2 v3 a = some y) (hc : ∀ a : Int32 × Int64 × Int32 × MS, y = .inl a → mW p l e rmX2_which s m args below meth c E 10 Q 36 [(0, .ref (E.2.2.2.1 0)), (1, .int v1), (2, .int v2), (3, .int v3), (4, .int a.1), (5, .long a.2.1), (7, .int a.2.2.1)] [] a.2.2.2) (hx1 : ∀ b : Int32 × MS, y = .inr b → mW p l e rmX2_which s m args below meth c E 10 Q 111 [(4, .int b.1)] [] b.2) : mW p l e rmX2_which s m args below meth c E 10 Q 36 [(0, .ref (E.2.2.2.1 0)), (1, .int v1), (2, .int v2), (3, .int v3), (4, .int a.1), (5, .long a.2.1), (7, .int a.2.2.1)] [] a.2.2.2 := by
  intro H locs ls hP hS hl
  have hx := hC.1
  have hb := hC.2.1
  have hown := hC.2.2.2.2.2.1
  have hts := hC.2.2.2.2.2.2.1
  unfold fX2_which_B36 at hE
  refine lv_iload hx hb dX2_which_36 (lv_at hl 6 rfl) ?_
  refine lv_bipush (v := 30) hx hb dX2_which_38 (by decide) ?_
  refine lv_icmp_ge (tgt := 111) hx hb dX2_which_40 (by decide) (fun c_6 => ?_) (fun c_6 => ?_)
  · have hE := ip c_6 hE
    exact hx1 _ (Option.some.inj hE).symm H locs ls hP hS (lv_sub hl [4] rfl)
  · have hE := iq c_6 hE
    refine lv_aload_n hx hb dX2_which_43 rfl (lv_at hl 0 rfl) ?_
    refine lv_iload hx hb dX2_which_44 (lv_at hl 6 rfl) ?_
    obtain ⟨r_7, h_7, hE⟩ := ob hE
    refine m_calli [.int a.2.2.1] hC hP hS hl.1 (wX2_isBar a.2.2.2 a.2.2.1 r_7 h_7) (cwV 1 hts lkX2_300 rfl rfl rfl cdX2_isBar ⟨Nat.le_of_ble_eq_true rfl, Nat.le_of_ble_eq_true rfl⟩) rfl rfl (lv_room (Nat.le_of_ble_eq_true rfl)) dX2_which_46 (fun H locs hP hS => ?_)
    refine lv_if_ne (tgt := 55) hx hb dX2_which_49 (by decide) (fun c_8 => ?_) (fun c_8 => ?_)
    · have hE := iq c_8 hE
      refine lv_aload_n hx hb dX2_which_55 rfl (lv_at hl 0 rfl) ?_
      refine gM_7 hC hP dX2_which_56 ?_
      refine lv_bipush (v := 9) hx hb dX2_which_59 (by decide) ?_
      refine lv_iload hx hb dX2_which_61 (lv_at hl 6 rfl) ?_
      refine lv_iadd hx hb dX2_which_63 ?_
      refine lv_iconst (v := 0) hx hb dX2_which_64 (by decide) ?_
      obtain ⟨c_9, hE⟩ := og hE
      obtain ⟨z_9, ez_9, hE⟩ := on hE
      refine tM_0 hC hP hS c_9 ez_9 dX2_which_65 (fun H locs hP hS => ?_)
      refine lv_aload_n hx hb dX2_which_66 rfl (lv_at hl 0 rfl) ?_
      refine lv_iload_n hx hb dX2_which_67 rfl (lv_at hl 1 rfl) ?_
      refine lv_iload_n hx hb dX2_which_68 rfl (lv_at hl 2 rfl) ?_
      refine lv_iload_n hx hb dX2_which_69 rfl (lv_at hl 3 rfl) ?_
      obtain ⟨r_10, h_10, hE⟩ := ob hE
      refine m_calll [.int v1, .int v2, .int v3] hC hP hS hl.1 (wX2_weightOf k z_9 v1 v2 v3 r_10 h_10) (cwV 3 hts lkX2_390 rfl rfl rfl cdX2_weightOf ⟨Nat.le_of_ble_eq_true rfl, Nat.le_of_ble_eq_true rfl⟩) rfl rfl (lv_room (Nat.le_of_ble_eq_true rfl)) dX2_which_70 (fun H locs hP hS => ?_)
      refine lv_lstore (lv' := [(8, .long r_10.1), (0, .ref (E.2.2.2.1 0)), (1, .int v1), (2, .int v2), (3, .int v3), (4, .int a.1), (5, .long a.2.1), (7, .int a.2.2.1)]) hx hb dX2_which_73 hl (Nat.le_of_ble_eq_true rfl) rfl (fun ls hl => ?_)
      refine lv_aload_n hx hb dX2_which_75 rfl (lv_at hl 1 rfl) ?_
      refine gM_7 hC hP dX2_which_76 ?_
      refine lv_bipush (v := 9) hx hb dX2_which_79 (by decide) ?_
      refine lv_iload hx hb dX2_which_81 (lv_at hl 7 rfl) ?_
      refine lv_iadd hx hb dX2_which_83 ?_
      refine lv_iconst (v := 1) hx hb dX2_which_84 (by decide) ?_
      obtain ⟨c_11, hE⟩ := og hE
      obtain ⟨z_11, ez_11, hE⟩ := on hE
      refine tM_0 hC hP hS c_11 ez_11 dX2_which_85 (fun H locs hP hS => ?_)
      refine lv_lload hx hb dX2_which_86 (lv_at hl 0 rfl) ?_
      refine lv_lload hx hb dX2_which_88 (lv_at hl 6 rfl) ?_
      refine W.lcmp hx hb dX2_which_90 ?_
      refine lv_if_gt (tgt := 97) hx hb dX2_which_91 (by decide) (fun c_12 => ?_) (fun c_12 => ?_)
      · have hE := ip c_12 hE
        refine lv_lload hx hb dX2_which_97 (lv_at hl 0 rfl) ?_
        refine lv_lstore (lv' := [(5, .long r_10.1), (8, .long r_10.1), (0, .ref (E.2.2.2.1 0)), (1, .int v1), (2, .int v2), (3, .int v3), (4, .int a.1), (7, .int a.2.2.1)]) hx hb dX2_which_99 hl (Nat.le_of_ble_eq_true rfl) rfl (fun ls hl => ?_)
        refine lv_iload hx hb dX2_which_101 (lv_at hl 7 rfl) ?_
        refine lv_istore (lv' := [(4, .int a.2.2.1), (5, .long r_10.1), (8, .long r_10.1), (0, .ref (E.2.2.2.1 0)), (1, .int v1), (2, .int v2), (3, .int v3), (7, .int a.2.2.1)]) hx hb dX2_which_103 hl (Nat.le_of_ble_eq_true rfl) rfl (fun ls hl => ?_)
        refine lv_iinc (v := (a.2.2.1 + (1 : Int32))) (lv' := [(7, .int (a.2.2.1 + (1 : Int32))), (4, .int a.2.2.1), (5, .long r_10.1), (8, .long r_10.1), (0, .ref (E.2.2.2.1 0)), (1, .int v1), (2, .int v2), (3, .int v3)]) hx hb dX2_which_105 hl (k := 7) rfl rfl (Nat.le_of_ble_eq_true rfl) rfl (fun ls hl => ?_)
        refine lv_goto (tgt := 36) hx hb dX2_which_108 (by decide) ?_
        exact hc _ (Option.some.inj hE).symm H locs ls hP hS (lv_sub hl [4, 5, 6, 7, 1, 2, 0] rfl)
      · have hE := iq c_12 hE
        refine lv_goto (tgt := 105) hx hb dX2_which_94 (by decide) ?_
        refine lv_iinc (v := (a.2.2.1 + (1 : Int32))) (lv' := [(7, .int (a.2.2.1 + (1 : Int32))), (8, .long r_10.1), (0, .ref (E.2.2.2.1 0)), (1, .int v1), (2, .int v2), (3, .int v3), (4, .int a.1), (5, .long a.2.1)]) hx hb dX2_which_105 hl (k := 7) rfl rfl (Nat.le_of_ble_eq_true rfl) rfl (fun ls hl => ?_)
        refine lv_goto (tgt := 36) hx hb dX2_which_108 (by decide) ?_
        exact hc _ (Option.some.inj hE).symm H locs ls hP hS (lv_sub hl [2, 3, 4, 5, 6, 7, 0] rfl)
    · have hE := ip c_8 hE
      refine lv_goto (tgt := 105) hx hb dX2_which_52 (by decide) ?_
      refine lv_iinc (v := (a.2.2.1 + (1 : Int32))) (lv' := [(7, .int (a.2.2.1 + (1 : Int32))), (0, .ref (E.2.2.2.1 0)), (1, .int v1), (2, .int v2), (3, .int v3), (4, .int a.1), (5, .long a.2.1)]) hx hb dX2_which_105 hl (k := 6) rfl rfl (Nat.le_of_ble_eq_true rfl) rfl (fun ls hl => ?_)
      refine lv_goto (tgt := 36) hx hb dX2_which_108 (by decide) ?_
      exact hc _ (Option.some.inj hE).symm H locs ls hP hS (lv_sub hl [1, 2, 3, 4, 5, 6, 0] rfl)
def fX2_which (k : Nat) (z : MS) (x1 : Int32) (x2 : Int32) (x3 : Int32) : Option (Int32 × MS) := (fX2_areRunning z x1 x2).bind fun r_1 => if r_1 = 0 then (some ((-1 : Int32), z)) else ((fX2_isIn x3 (0 : Int32) (12 : Int32)).bind fun r_3 => if r_3 = 0 then (some ((-1 : Int32), z)) else ((fX2_weightOf k z x1 x2 x3).bind fun r_5 => (lpo (fX2_which_B36 k x1 x2 x3) k ((-1 : Int32), r_5.1, (0 : Int32), r_5.2)).bind fun x_13 => some (x_13.1, x_13.2)))
set_option maxHeartbeats 1000000 in
theorem wX2_which {l : Launch} {E : ME} (k : Nat) (z : MS) (x1 : Int32) (x2 : Int32) (x3 : Int32) (y : Int32 × MS) (hE : fX2_which k z x1 x2 x3 = some y) : mM l yX2_which (ws_ yX2_which cX2_which 10 (some .int)) rmX2_which E z [.int x1, .int x2, .int x3] (some (.int y.1)) y.2 := by
  refine m_met (by decide) rfl (Nat.le_of_ble_eq_true rfl) (fun p e s m args below meth c hC => ?_)
  intro H locs ls hP hS hl
  have hx := hC.1
  have hb := hC.2.1
  have hown := hC.2.2.2.2.2.1
  have hts := hC.2.2.2.2.2.2.1
  have hl : lv_has ls 10 [(0, .ref (E.2.2.2.1 0)), (1, .int x1), (2, .int x2), (3, .int x3)] := hl
  unfold fX2_which at hE
  refine lv_aload_n hx hb dX2_which_0 rfl (lv_at hl 0 rfl) ?_
  refine lv_iload_n hx hb dX2_which_1 rfl (lv_at hl 1 rfl) ?_
  refine lv_iload_n hx hb dX2_which_2 rfl (lv_at hl 2 rfl) ?_
  obtain ⟨r_1, h_1, hE⟩ := ob hE
  refine m_calli [.int x1, .int x2] hC hP hS hl.1 (wX2_areRunning z x1 x2 r_1 h_1) (cwV 2 hts lkX2_387 rfl rfl rfl cdX2_areRunning ⟨Nat.le_of_ble_eq_true rfl, Nat.le_of_ble_eq_true rfl⟩) rfl rfl (lv_room (Nat.le_of_ble_eq_true rfl)) dX2_which_3 (fun H locs hP hS => ?_)
  refine lv_if_eq (tgt := 19) hx hb dX2_which_6 (by decide) (fun c_2 => ?_) (fun c_2 => ?_)
  · have hE := ip c_2 hE
    refine lv_iconst (v := -1) hx hb dX2_which_19 (by decide) ?_
    obtain rfl := Option.some.inj hE
    exact m_iret hC hP hS dX2_which_20
  · have hE := iq c_2 hE
    refine lv_iload_n hx hb dX2_which_9 rfl (lv_at hl 3 rfl) ?_
    refine lv_iconst (v := 0) hx hb dX2_which_10 (by decide) ?_
    refine lv_bipush (v := 12) hx hb dX2_which_11 (by decide) ?_
    obtain ⟨r_3, h_3, hE⟩ := ob hE
    refine s_calli [.int x3, .int (0 : Int32), .int (12 : Int32)] hC.sC hl.1 (wX2_isIn x3 (0 : Int32) (12 : Int32) r_3 h_3) (va_cwS 3 hts lkX2_69 rfl rfl rfl cdX2_isIn ⟨Nat.le_of_ble_eq_true rfl, Nat.le_of_ble_eq_true rfl⟩) rfl rfl (lv_room (Nat.le_of_ble_eq_true rfl)) ⟨Nat.zero_le _, Nat.zero_le _⟩ dX2_which_13 ?_
    refine lv_if_ne (tgt := 21) hx hb dX2_which_16 (by decide) (fun c_4 => ?_) (fun c_4 => ?_)
    · have hE := iq c_4 hE
      refine lv_iconst (v := -1) hx hb dX2_which_21 (by decide) ?_
      refine lv_istore (lv' := [(4, .int (-1 : Int32)), (0, .ref (E.2.2.2.1 0)), (1, .int x1), (2, .int x2), (3, .int x3)]) hx hb dX2_which_22 hl (Nat.le_of_ble_eq_true rfl) rfl (fun ls hl => ?_)
      refine lv_aload_n hx hb dX2_which_24 rfl (lv_at hl 1 rfl) ?_
      refine lv_iload_n hx hb dX2_which_25 rfl (lv_at hl 2 rfl) ?_
      refine lv_iload_n hx hb dX2_which_26 rfl (lv_at hl 3 rfl) ?_
      refine lv_iload_n hx hb dX2_which_27 rfl (lv_at hl 4 rfl) ?_
      obtain ⟨r_5, h_5, hE⟩ := ob hE
      refine m_calll [.int x1, .int x2, .int x3] hC hP hS hl.1 (wX2_weightOf k z x1 x2 x3 r_5 h_5) (cwV 3 hts lkX2_390 rfl rfl rfl cdX2_weightOf ⟨Nat.le_of_ble_eq_true rfl, Nat.le_of_ble_eq_true rfl⟩) rfl rfl (lv_room (Nat.le_of_ble_eq_true rfl)) dX2_which_28 (fun H locs hP hS => ?_)
      refine lv_lstore (lv' := [(5, .long r_5.1), (4, .int (-1 : Int32)), (0, .ref (E.2.2.2.1 0)), (1, .int x1), (2, .int x2), (3, .int x3)]) hx hb dX2_which_31 hl (Nat.le_of_ble_eq_true rfl) rfl (fun ls hl => ?_)
      refine lv_iconst (v := 0) hx hb dX2_which_33 (by decide) ?_
      refine lv_istore (lv' := [(7, .int (0 : Int32)), (5, .long r_5.1), (4, .int (-1 : Int32)), (0, .ref (E.2.2.2.1 0)), (1, .int x1), (2, .int x2), (3, .int x3)]) hx hb dX2_which_34 hl (Nat.le_of_ble_eq_true rfl) rfl (fun ls hl => ?_)
      obtain ⟨x_13, h_13, hE⟩ := ob hE
      refine lpo_walk (fun p_13 : Int32 × Int64 × Int32 × MS => mW p l e rmX2_which s m args below meth c E 10 (mQ E below args s (some (.int y.1)) y.2) 36 [(0, .ref (E.2.2.2.1 0)), (1, .int x1), (2, .int x2), (3, .int x3), (4, .int p_13.1), (5, .long p_13.2.1), (7, .int p_13.2.2.1)] [] p_13.2.2.2) (fun q_13 : Int32 × MS => mW p l e rmX2_which s m args below meth c E 10 (mQ E below args s (some (.int y.1)) y.2) 111 [(4, .int q_13.1)] [] q_13.2) (fun a_13 y_13 hB_13 hc_13 hx_13 => wX2_which_B36 k x1 x2 x3 hC a_13 y_13 hB_13 hc_13 hx_13) _ _ x_13 h_13 ?_ H locs ls hP hS (lv_sub hl [3, 4, 5, 6, 2, 1, 0] rfl)
      intro H locs ls hP hS hl
      refine lv_iload hx hb dX2_which_111 (lv_at hl 0 rfl) ?_
      obtain rfl := Option.some.inj hE
      exact m_iret hC hP hS dX2_which_113
    · have hE := ip c_4 hE
      refine lv_iconst (v := -1) hx hb dX2_which_19 (by decide) ?_
      obtain rfl := Option.some.inj hE
      exact m_iret hC hP hS dX2_which_20
def fX2_nth (k : Nat) (z : MS) (x1 : Int32) (x2 : Int32) : Option (Int32 × MS) := (fX2_isPlace x1).bind fun r_1 => if r_1 = 0 then (some ((-1 : Int32), z)) else ((fX2_isIn x2 (1 : Int32) (60 : Int32)).bind fun r_3 => if r_3 = 0 then (some ((-1 : Int32), z)) else ((fX2_layBars k z x1).bind fun r_5 => if (r_5.1 27) < x2 then (some ((-1 : Int32), r_5)) else (if ib (x2 - (1 : Int32)) 60 then none else (some ((r_5.2.2.1 26 (x2 - (1 : Int32)).toNatClampNeg), r_5)))))
set_option maxHeartbeats 1000000 in
theorem wX2_nth {l : Launch} {E : ME} (k : Nat) (z : MS) (x1 : Int32) (x2 : Int32) (y : Int32 × MS) (hE : fX2_nth k z x1 x2 = some y) : mM l yX2_nth (ws_ yX2_nth cX2_nth 3 (some .int)) rmX2_nth E z [.int x1, .int x2] (some (.int y.1)) y.2 := by
  refine m_met (by decide) rfl (Nat.le_of_ble_eq_true rfl) (fun p e s m args below meth c hC => ?_)
  intro H locs ls hP hS hl
  have hx := hC.1
  have hb := hC.2.1
  have hown := hC.2.2.2.2.2.1
  have hts := hC.2.2.2.2.2.2.1
  have hl : lv_has ls 3 [(0, .ref (E.2.2.2.1 0)), (1, .int x1), (2, .int x2)] := hl
  unfold fX2_nth at hE
  refine lv_iload_n hx hb dX2_nth_0 rfl (lv_at hl 1 rfl) ?_
  obtain ⟨r_1, h_1, hE⟩ := ob hE
  refine s_calli [.int x1] hC.sC hl.1 (wX2_isPlace x1 r_1 h_1) (va_cwS 1 hts lkX2_73 rfl rfl rfl cdX2_isPlace ⟨Nat.le_of_ble_eq_true rfl, Nat.le_of_ble_eq_true rfl⟩) rfl rfl (lv_room (Nat.le_of_ble_eq_true rfl)) ⟨Nat.zero_le _, Nat.zero_le _⟩ dX2_nth_1 ?_
  refine lv_if_eq (tgt := 17) hx hb dX2_nth_4 (by decide) (fun c_2 => ?_) (fun c_2 => ?_)
  · have hE := ip c_2 hE
    refine lv_iconst (v := -1) hx hb dX2_nth_17 (by decide) ?_
    obtain rfl := Option.some.inj hE
    exact m_iret hC hP hS dX2_nth_18
  · have hE := iq c_2 hE
    refine lv_iload_n hx hb dX2_nth_7 rfl (lv_at hl 2 rfl) ?_
    refine lv_iconst (v := 1) hx hb dX2_nth_8 (by decide) ?_
    refine lv_bipush (v := 60) hx hb dX2_nth_9 (by decide) ?_
    obtain ⟨r_3, h_3, hE⟩ := ob hE
    refine s_calli [.int x2, .int (1 : Int32), .int (60 : Int32)] hC.sC hl.1 (wX2_isIn x2 (1 : Int32) (60 : Int32) r_3 h_3) (va_cwS 3 hts lkX2_69 rfl rfl rfl cdX2_isIn ⟨Nat.le_of_ble_eq_true rfl, Nat.le_of_ble_eq_true rfl⟩) rfl rfl (lv_room (Nat.le_of_ble_eq_true rfl)) ⟨Nat.zero_le _, Nat.zero_le _⟩ dX2_nth_11 ?_
    refine lv_if_ne (tgt := 19) hx hb dX2_nth_14 (by decide) (fun c_4 => ?_) (fun c_4 => ?_)
    · have hE := iq c_4 hE
      refine lv_aload_n hx hb dX2_nth_19 rfl (lv_at hl 0 rfl) ?_
      refine lv_iload_n hx hb dX2_nth_20 rfl (lv_at hl 1 rfl) ?_
      obtain ⟨r_5, h_5, hE⟩ := ob hE
      refine m_callv [.int x1] hC hP hS hl.1 (wX2_layBars k z x1 r_5 h_5) (cwV 1 hts lkX2_376 rfl rfl rfl cdX2_layBars ⟨Nat.le_of_ble_eq_true rfl, Nat.le_of_ble_eq_true rfl⟩) rfl rfl (lv_room (Nat.le_of_ble_eq_true rfl)) dX2_nth_21 (fun H locs hP hS => ?_)
      refine lv_iload_n hx hb dX2_nth_24 rfl (lv_at hl 2 rfl) ?_
      refine lv_aload_n hx hb dX2_nth_25 rfl (lv_at hl 0 rfl) ?_
      refine gM_373 hC hP dX2_nth_26 ?_
      refine lv_icmp_gt (tgt := 43) hx hb dX2_nth_29 (by decide) (fun c_6 => ?_) (fun c_6 => ?_)
      · have hE := ip c_6 hE
        refine lv_iconst (v := -1) hx hb dX2_nth_43 (by decide) ?_
        obtain rfl := Option.some.inj hE
        exact m_iret hC hP hS dX2_nth_44
      · have hE := iq c_6 hE
        refine lv_aload_n hx hb dX2_nth_32 rfl (lv_at hl 0 rfl) ?_
        refine gM_50 hC hP dX2_nth_33 ?_
        refine lv_iload_n hx hb dX2_nth_36 rfl (lv_at hl 2 rfl) ?_
        refine lv_iconst (v := 1) hx hb dX2_nth_37 (by decide) ?_
        refine lv_isub hx hb dX2_nth_38 ?_
        obtain ⟨c_7, hE⟩ := og hE
        refine aM_26 hC hP c_7 dX2_nth_39 ?_
        refine lv_goto (tgt := 44) hx hb dX2_nth_40 (by decide) ?_
        obtain rfl := Option.some.inj hE
        exact m_iret hC hP hS dX2_nth_44
    · have hE := ip c_4 hE
      refine lv_iconst (v := -1) hx hb dX2_nth_17 (by decide) ?_
      obtain rfl := Option.some.inj hE
      exact m_iret hC hP hS dX2_nth_18
def fX2_value (z : MS) (x1 : Int32) (x2 : Int32) : Option (Int32 × MS) := (fX2_isIn x1 (0 : Int32) (12 : Int32)).bind fun r_1 => if r_1 = 0 then (some ((0 : Int32), z)) else ((fX2_isIn x2 (0 : Int32) (99 : Int32)).bind fun r_3 => if r_3 = 0 then (some ((0 : Int32), z)) else (if ib ((90 : Int32) + x1) 3205 then none else (nm (mA z 0 (upd (z.2.2.1 0) ((90 : Int32) + x1).toNatClampNeg x2)) fun z_5 => some ((1 : Int32), z_5))))
set_option maxHeartbeats 1000000 in
theorem wX2_value {l : Launch} {E : ME} (z : MS) (x1 : Int32) (x2 : Int32) (y : Int32 × MS) (hE : fX2_value z x1 x2 = some y) : mM l yX2_value (ws_ yX2_value cX2_value 3 (some .boolean)) rmX2_value E z [.int x1, .int x2] (some (.int y.1)) y.2 := by
  refine m_met (by decide) rfl (Nat.le_of_ble_eq_true rfl) (fun p e s m args below meth c hC => ?_)
  intro H locs ls hP hS hl
  have hx := hC.1
  have hb := hC.2.1
  have hown := hC.2.2.2.2.2.1
  have hts := hC.2.2.2.2.2.2.1
  have hl : lv_has ls 3 [(0, .ref (E.2.2.2.1 0)), (1, .int x1), (2, .int x2)] := hl
  unfold fX2_value at hE
  refine lv_iload_n hx hb dX2_value_0 rfl (lv_at hl 1 rfl) ?_
  refine lv_iconst (v := 0) hx hb dX2_value_1 (by decide) ?_
  refine lv_bipush (v := 12) hx hb dX2_value_2 (by decide) ?_
  obtain ⟨r_1, h_1, hE⟩ := ob hE
  refine s_calli [.int x1, .int (0 : Int32), .int (12 : Int32)] hC.sC hl.1 (wX2_isIn x1 (0 : Int32) (12 : Int32) r_1 h_1) (va_cwS 3 hts lkX2_69 rfl rfl rfl cdX2_isIn ⟨Nat.le_of_ble_eq_true rfl, Nat.le_of_ble_eq_true rfl⟩) rfl rfl (lv_room (Nat.le_of_ble_eq_true rfl)) ⟨Nat.zero_le _, Nat.zero_le _⟩ dX2_value_4 ?_
  refine lv_if_eq (tgt := 20) hx hb dX2_value_7 (by decide) (fun c_2 => ?_) (fun c_2 => ?_)
  · have hE := ip c_2 hE
    refine lv_iconst (v := 0) hx hb dX2_value_20 (by decide) ?_
    obtain rfl := Option.some.inj hE
    exact m_zret (v := (0 : Int32)) hC hP hS (by decide) dX2_value_21
  · have hE := iq c_2 hE
    refine lv_iload_n hx hb dX2_value_10 rfl (lv_at hl 2 rfl) ?_
    refine lv_iconst (v := 0) hx hb dX2_value_11 (by decide) ?_
    refine lv_bipush (v := 99) hx hb dX2_value_12 (by decide) ?_
    obtain ⟨r_3, h_3, hE⟩ := ob hE
    refine s_calli [.int x2, .int (0 : Int32), .int (99 : Int32)] hC.sC hl.1 (wX2_isIn x2 (0 : Int32) (99 : Int32) r_3 h_3) (va_cwS 3 hts lkX2_69 rfl rfl rfl cdX2_isIn ⟨Nat.le_of_ble_eq_true rfl, Nat.le_of_ble_eq_true rfl⟩) rfl rfl (lv_room (Nat.le_of_ble_eq_true rfl)) ⟨Nat.zero_le _, Nat.zero_le _⟩ dX2_value_14 ?_
    refine lv_if_ne (tgt := 22) hx hb dX2_value_17 (by decide) (fun c_4 => ?_) (fun c_4 => ?_)
    · have hE := iq c_4 hE
      refine lv_aload_n hx hb dX2_value_22 rfl (lv_at hl 0 rfl) ?_
      refine gM_7 hC hP dX2_value_23 ?_
      refine lv_bipush (v := 90) hx hb dX2_value_26 (by decide) ?_
      refine lv_iload_n hx hb dX2_value_28 rfl (lv_at hl 1 rfl) ?_
      refine lv_iadd hx hb dX2_value_29 ?_
      refine lv_iload_n hx hb dX2_value_30 rfl (lv_at hl 2 rfl) ?_
      obtain ⟨c_5, hE⟩ := og hE
      obtain ⟨z_5, ez_5, hE⟩ := on hE
      refine tM_0 hC hP hS c_5 ez_5 dX2_value_31 (fun H locs hP hS => ?_)
      refine lv_iconst (v := 1) hx hb dX2_value_32 (by decide) ?_
      obtain rfl := Option.some.inj hE
      exact m_zret (v := (1 : Int32)) hC hP hS (by decide) dX2_value_33
    · have hE := ip c_4 hE
      refine lv_iconst (v := 0) hx hb dX2_value_20 (by decide) ?_
      obtain rfl := Option.some.inj hE
      exact m_zret (v := (0 : Int32)) hC hP hS (by decide) dX2_value_21
def fX2_layWorths_J117 (k : Nat) (z : MS) (v1 : Int32) (v3 : Int32) (x4 : Int32) (t0 : Int64) (t1 : Int32) : Option ((Int32 × MS) ⊕ MS) := if ib t1 13 then none else (nm (mL z 28 (vp_updL (z.2.2.2 28) t1.toNatClampNeg t0)) fun z_13 => some (.inl ((x4 + (-1 : Int32)), z_13)))
set_option maxHeartbeats 1000000 in
theorem wX2_layWorths_J117 {p : Program} {l : Launch} {e : Env} {s : State} {m : MethodId} {args : Array Value} {below : List Frame} {meth : Method} {c : Code} {E : ME} {Q : State → Prop} (k : Nat) (z : MS) (v1 : Int32) (v3 : Int32) (x4 : Int32) (t0 : Int64) (t1 : Int32) (hC : mC E cX2_layWorths 9 (some .int) p s m args meth c) (y : (Int32 × MS) ⊕ MS) (hE : fX2_layWorths_J117 k z v1 v3 x4 t0 t1 = some y) (hc : ∀ a : Int32 × MS, y = .inl a → mW p l e rmX2_layWorths s m args below meth c E 9 Q 45 [(0, .ref (E.2.2.2.1 0)), (1, .int v1), (3, .int v3), (4, .int a.1)] [] a.2) (hx1 : ∀ b : MS, y = .inr b → mW p l e rmX2_layWorths s m args below meth c E 9 Q 124 [(3, .int v3)] [] b) : mW p l e rmX2_layWorths s m args below meth c E 9 Q 117 [(0, .ref (E.2.2.2.1 0)), (1, .int v1), (3, .int v3), (4, .int x4)] [.long t0, .int t1, .ref (E.2.2.2.1 11)] z := by
  intro H locs ls hP hS hl
  have hx := hC.1
  have hb := hC.2.1
  have hown := hC.2.2.2.2.2.1
  have hts := hC.2.2.2.2.2.2.1
  unfold fX2_layWorths_J117 at hE
  obtain ⟨c_13, hE⟩ := og hE
  obtain ⟨z_13, ez_13, hE⟩ := on hE
  refine tM_28 hC hP hS c_13 ez_13 dX2_layWorths_117 (fun H locs hP hS => ?_)
  refine lv_iinc (v := (x4 + (-1 : Int32))) (lv' := [(4, .int (x4 + (-1 : Int32))), (0, .ref (E.2.2.2.1 0)), (1, .int v1), (3, .int v3)]) hx hb dX2_layWorths_118 hl (k := 3) rfl rfl (Nat.le_of_ble_eq_true rfl) rfl (fun ls hl => ?_)
  refine lv_goto (tgt := 45) hx hb dX2_layWorths_121 (by decide) ?_
  exact hc _ (Option.some.inj hE).symm H locs ls hP hS (lv_sub hl [1, 2, 3, 0] rfl)
def fX2_layWorths_B45 (k : Nat) (v1 : Int32) (v3 : Int32) (a : Int32 × MS) : Option ((Int32 × MS) ⊕ MS) := if a.1 < 0 then (some (.inr a.2)) else (if ib ((90 : Int32) + a.1) 3205 then none else ((fX2_tens k (v3 - a.1)).bind fun r_7 => nm ((a.2.2.2.1 0 ((90 : Int32) + a.1).toNatClampNeg).toInt64 * r_7) fun v_8 => if ib (a.1 + (1 : Int32)) 13 then none else ((fX2_caughtAt k a.2 v1 (a.1 + (1 : Int32))).bind fun r_10 => nm ((a.2.2.2.2 28 (a.1 + (1 : Int32)).toNatClampNeg) * ((10 : Int32) - r_10.1).toInt64) fun v_11 => if (lg_cmp v_11 v_8) ≤ 0 then ((fX2_layWorths_J117 k r_10.2 v1 v3 a.1 v_8 a.1)) else ((fX2_layWorths_J117 k r_10.2 v1 v3 a.1 v_11 a.1)))))
set_option maxHeartbeats 1000000 in
theorem wX2_layWorths_B45 {p : Program} {l : Launch} {e : Env} {s : State} {m : MethodId} {args : Array Value} {below : List Frame} {meth : Method} {c : Code} {E : ME} {Q : State → Prop} (k : Nat) (v1 : Int32) (v3 : Int32) (hC : mC E cX2_layWorths 9 (some .int) p s m args meth c) (a : Int32 × MS) (y : (Int32 × MS) ⊕ MS) (hE : fX2_layWorths_B45 k v1 v3 a = some y) (hc : ∀ a : Int32 × MS, y = .inl a → mW p l e rmX2_layWorths s m args below meth c E 9 Q 45 [(0, .ref (E.2.2.2.1 0)), (1, .int v1), (3, .int v3), (4, .int a.1)] [] a.2) (hx1 : ∀ b : MS, y = .inr b → mW p l e rmX2_layWorths s m args below meth c E 9 Q 124 [(3, .int v3)] [] b) : mW p l e rmX2_layWorths s m args below meth c E 9 Q 45 [(0, .ref (E.2.2.2.1 0)), (1, .int v1), (3, .int v3), (4, .int a.1)] [] a.2 := by
  intro H locs ls hP hS hl
  have hx := hC.1
  have hb := hC.2.1
  have hown := hC.2.2.2.2.2.1
  have hts := hC.2.2.2.2.2.2.1
  unfold fX2_layWorths_B45 at hE
  refine lv_iload hx hb dX2_layWorths_45 (lv_at hl 3 rfl) ?_
  refine lv_if_lt (tgt := 124) hx hb dX2_layWorths_47 (by decide) (fun c_5 => ?_) (fun c_5 => ?_)
  · have hE := ip c_5 hE
    exact hx1 _ (Option.some.inj hE).symm H locs ls hP hS (lv_sub hl [2] rfl)
  · have hE := iq c_5 hE
    refine lv_aload_n hx hb dX2_layWorths_50 rfl (lv_at hl 0 rfl) ?_
    refine gM_7 hC hP dX2_layWorths_51 ?_
    refine lv_bipush (v := 90) hx hb dX2_layWorths_54 (by decide) ?_
    refine lv_iload hx hb dX2_layWorths_56 (lv_at hl 3 rfl) ?_
    refine lv_iadd hx hb dX2_layWorths_58 ?_
    obtain ⟨c_6, hE⟩ := og hE
    refine aM_0 hC hP c_6 dX2_layWorths_59 ?_
    refine lv_i2l hx hb dX2_layWorths_60 rfl ?_
    refine lv_iload_n hx hb dX2_layWorths_61 rfl (lv_at hl 2 rfl) ?_
    refine lv_iload hx hb dX2_layWorths_62 (lv_at hl 3 rfl) ?_
    refine lv_isub hx hb dX2_layWorths_64 ?_
    obtain ⟨r_7, h_7, hE⟩ := ob hE
    refine s_calll [.int (v3 - a.1)] hC.sC hl.1 (wX2_tens k (v3 - a.1) r_7 h_7) (va_cwS 1 hts lkX2_393 rfl rfl rfl cdX2_tens ⟨Nat.le_of_ble_eq_true rfl, Nat.le_of_ble_eq_true rfl⟩) rfl rfl (lv_room (Nat.le_of_ble_eq_true rfl)) ⟨Nat.zero_le _, Nat.zero_le _⟩ dX2_layWorths_65 ?_
    refine lv_lmul hx hb dX2_layWorths_68 ?_
    refine nm_l hE (fun v_8 ev_8 hE => ?_)
    refine lv_lstore (lv' := [(5, .long v_8), (0, .ref (E.2.2.2.1 0)), (1, .int v1), (3, .int v3), (4, .int a.1)]) hx hb dX2_layWorths_69 hl (Nat.le_of_ble_eq_true rfl) rfl (fun ls hl => ?_)
    refine lv_aload_n hx hb dX2_layWorths_71 rfl (lv_at hl 1 rfl) ?_
    refine gM_53 hC hP dX2_layWorths_72 ?_
    refine lv_iload hx hb dX2_layWorths_75 (lv_at hl 4 rfl) ?_
    refine lv_iconst (v := 1) hx hb dX2_layWorths_77 (by decide) ?_
    refine lv_iadd hx hb dX2_layWorths_78 ?_
    obtain ⟨c_9, hE⟩ := og hE
    refine aM_28 hC hP c_9 dX2_layWorths_79 ?_
    refine lv_bipush (v := 10) hx hb dX2_layWorths_80 (by decide) ?_
    refine lv_aload_n hx hb dX2_layWorths_82 rfl (lv_at hl 1 rfl) ?_
    refine lv_iload_n hx hb dX2_layWorths_83 rfl (lv_at hl 2 rfl) ?_
    refine lv_iload hx hb dX2_layWorths_84 (lv_at hl 4 rfl) ?_
    refine lv_iconst (v := 1) hx hb dX2_layWorths_86 (by decide) ?_
    refine lv_iadd hx hb dX2_layWorths_87 ?_
    obtain ⟨r_10, h_10, hE⟩ := ob hE
    refine m_calli [.int v1, .int (a.1 + (1 : Int32))] hC hP hS hl.1 (wX2_caughtAt k a.2 v1 (a.1 + (1 : Int32)) r_10 h_10) (cwV 2 hts lkX2_379 rfl rfl rfl cdX2_caughtAt ⟨Nat.le_of_ble_eq_true rfl, Nat.le_of_ble_eq_true rfl⟩) rfl rfl (lv_room (Nat.le_of_ble_eq_true rfl)) dX2_layWorths_88 (fun H locs hP hS => ?_)
    refine lv_isub hx hb dX2_layWorths_91 ?_
    refine lv_i2l hx hb dX2_layWorths_92 rfl ?_
    refine lv_lmul hx hb dX2_layWorths_93 ?_
    refine nm_l hE (fun v_11 ev_11 hE => ?_)
    refine lv_lstore (lv' := [(7, .long v_11), (5, .long v_8), (0, .ref (E.2.2.2.1 0)), (1, .int v1), (3, .int v3), (4, .int a.1)]) hx hb dX2_layWorths_94 hl (Nat.le_of_ble_eq_true rfl) rfl (fun ls hl => ?_)
    refine lv_aload_n hx hb dX2_layWorths_96 rfl (lv_at hl 2 rfl) ?_
    refine gM_53 hC hP dX2_layWorths_97 ?_
    refine lv_iload hx hb dX2_layWorths_100 (lv_at hl 5 rfl) ?_
    refine lv_lload hx hb dX2_layWorths_102 (lv_at hl 0 rfl) ?_
    refine lv_lload hx hb dX2_layWorths_104 (lv_at hl 1 rfl) ?_
    refine W.lcmp hx hb dX2_layWorths_106 ?_
    refine lv_if_le (tgt := 115) hx hb dX2_layWorths_107 (by decide) (fun c_12 => ?_) (fun c_12 => ?_)
    · have hE := ip c_12 hE
      refine lv_lload hx hb dX2_layWorths_115 (lv_at hl 1 rfl) ?_
      exact wX2_layWorths_J117 k r_10.2 v1 v3 a.1 v_8 a.1 hC y hE hc hx1 H locs ls hP hS (lv_sub hl [2, 3, 4, 5] rfl)
    · have hE := iq c_12 hE
      refine lv_lload hx hb dX2_layWorths_110 (lv_at hl 0 rfl) ?_
      refine lv_goto (tgt := 117) hx hb dX2_layWorths_112 (by decide) ?_
      exact wX2_layWorths_J117 k r_10.2 v1 v3 a.1 v_11 a.1 hC y hE hc hx1 H locs ls hP hS (lv_sub hl [2, 3, 4, 5] rfl)
def fX2_layWorths_J23 (k : Nat) (z : MS) (x1 : Int32) (t0 : Int32) : Option (Int32 × MS) := if ib ((90 : Int32) + t0) 3205 then none else (if ib t0 13 then none else (nm (mL z 28 (vp_updL (z.2.2.2 28) t0.toNatClampNeg (z.2.2.1 0 ((90 : Int32) + t0).toNatClampNeg).toInt64)) fun z_4 => (lpo (fX2_layWorths_B45 k x1 t0) k ((t0 - (1 : Int32)), z_4)).bind fun x_14 => some (t0, x_14)))
set_option maxHeartbeats 1000000 in
theorem wX2_layWorths_J23 {p : Program} {l : Launch} {e : Env} {s : State} {m : MethodId} {args : Array Value} {below : List Frame} {meth : Method} {c : Code} {E : ME} (k : Nat) (z : MS) (x1 : Int32) (t0 : Int32) (hC : mC E cX2_layWorths 9 (some .int) p s m args meth c) (y : Int32 × MS) (hE : fX2_layWorths_J23 k z x1 t0 = some y) : mW p l e rmX2_layWorths s m args below meth c E 9 (mQ E below args s (some (.int y.1)) y.2) 23 [(0, .ref (E.2.2.2.1 0)), (1, .int x1)] [.int t0] z := by
  intro H locs ls hP hS hl
  have hx := hC.1
  have hb := hC.2.1
  have hown := hC.2.2.2.2.2.1
  have hts := hC.2.2.2.2.2.2.1
  unfold fX2_layWorths_J23 at hE
  refine lv_istore_n (lv' := [(3, .int t0), (0, .ref (E.2.2.2.1 0)), (1, .int x1)]) hx hb dX2_layWorths_23 rfl hl (Nat.le_of_ble_eq_true rfl) rfl (fun ls hl => ?_)
  refine lv_aload_n hx hb dX2_layWorths_24 rfl (lv_at hl 1 rfl) ?_
  refine gM_53 hC hP dX2_layWorths_25 ?_
  refine lv_iload_n hx hb dX2_layWorths_28 rfl (lv_at hl 0 rfl) ?_
  refine lv_aload_n hx hb dX2_layWorths_29 rfl (lv_at hl 1 rfl) ?_
  refine gM_7 hC hP dX2_layWorths_30 ?_
  refine lv_bipush (v := 90) hx hb dX2_layWorths_33 (by decide) ?_
  refine lv_iload_n hx hb dX2_layWorths_35 rfl (lv_at hl 0 rfl) ?_
  refine lv_iadd hx hb dX2_layWorths_36 ?_
  obtain ⟨c_3, hE⟩ := og hE
  refine aM_0 hC hP c_3 dX2_layWorths_37 ?_
  refine lv_i2l hx hb dX2_layWorths_38 rfl ?_
  obtain ⟨c_4, hE⟩ := og hE
  obtain ⟨z_4, ez_4, hE⟩ := on hE
  refine tM_28 hC hP hS c_4 ez_4 dX2_layWorths_39 (fun H locs hP hS => ?_)
  refine lv_iload_n hx hb dX2_layWorths_40 rfl (lv_at hl 0 rfl) ?_
  refine lv_iconst (v := 1) hx hb dX2_layWorths_41 (by decide) ?_
  refine lv_isub hx hb dX2_layWorths_42 ?_
  refine lv_istore (lv' := [(4, .int (t0 - (1 : Int32))), (3, .int t0), (0, .ref (E.2.2.2.1 0)), (1, .int x1)]) hx hb dX2_layWorths_43 hl (Nat.le_of_ble_eq_true rfl) rfl (fun ls hl => ?_)
  obtain ⟨x_14, h_14, hE⟩ := ob hE
  refine lpo_walk (fun p_14 : Int32 × MS => mW p l e rmX2_layWorths s m args below meth c E 9 (mQ E below args s (some (.int y.1)) y.2) 45 [(0, .ref (E.2.2.2.1 0)), (1, .int x1), (3, .int t0), (4, .int p_14.1)] [] p_14.2) (fun q_14 : MS => mW p l e rmX2_layWorths s m args below meth c E 9 (mQ E below args s (some (.int y.1)) y.2) 124 [(3, .int t0)] [] q_14) (fun a_14 y_14 hB_14 hc_14 hx_14 => wX2_layWorths_B45 k x1 t0 hC a_14 y_14 hB_14 hc_14 hx_14) _ _ x_14 h_14 ?_ H locs ls hP hS (lv_sub hl [2, 3, 1, 0] rfl)
  intro H locs ls hP hS hl
  refine lv_iload_n hx hb dX2_layWorths_124 rfl (lv_at hl 0 rfl) ?_
  obtain rfl := Option.some.inj hE
  exact m_iret hC hP hS dX2_layWorths_125
def fX2_layWorths (k : Nat) (z : MS) (x1 : Int32) (x2 : Int32) : Option (Int32 × MS) := (fX2_layBars k z x2).bind fun r_1 => if (12 : Int32) ≤ (r_1.1 27) then ((fX2_layWorths_J23 k r_1 x1 (12 : Int32))) else ((fX2_layWorths_J23 k r_1 x1 (r_1.1 27)))
set_option maxHeartbeats 1000000 in
theorem wX2_layWorths {l : Launch} {E : ME} (k : Nat) (z : MS) (x1 : Int32) (x2 : Int32) (y : Int32 × MS) (hE : fX2_layWorths k z x1 x2 = some y) : mM l yX2_layWorths (ws_ yX2_layWorths cX2_layWorths 9 (some .int)) rmX2_layWorths E z [.int x1, .int x2] (some (.int y.1)) y.2 := by
  refine m_met (by decide) rfl (Nat.le_of_ble_eq_true rfl) (fun p e s m args below meth c hC => ?_)
  intro H locs ls hP hS hl
  have hx := hC.1
  have hb := hC.2.1
  have hown := hC.2.2.2.2.2.1
  have hts := hC.2.2.2.2.2.2.1
  have hl : lv_has ls 9 [(0, .ref (E.2.2.2.1 0)), (1, .int x1), (2, .int x2)] := hl
  unfold fX2_layWorths at hE
  refine lv_aload_n hx hb dX2_layWorths_0 rfl (lv_at hl 0 rfl) ?_
  refine lv_iload_n hx hb dX2_layWorths_1 rfl (lv_at hl 2 rfl) ?_
  obtain ⟨r_1, h_1, hE⟩ := ob hE
  refine m_callv [.int x2] hC hP hS hl.1 (wX2_layBars k z x2 r_1 h_1) (cwV 1 hts lkX2_376 rfl rfl rfl cdX2_layBars ⟨Nat.le_of_ble_eq_true rfl, Nat.le_of_ble_eq_true rfl⟩) rfl rfl (lv_room (Nat.le_of_ble_eq_true rfl)) dX2_layWorths_2 (fun H locs hP hS => ?_)
  refine lv_aload_n hx hb dX2_layWorths_5 rfl (lv_at hl 0 rfl) ?_
  refine gM_373 hC hP dX2_layWorths_6 ?_
  refine lv_bipush (v := 12) hx hb dX2_layWorths_9 (by decide) ?_
  refine lv_icmp_ge (tgt := 21) hx hb dX2_layWorths_11 (by decide) (fun c_2 => ?_) (fun c_2 => ?_)
  · have hE := ip c_2 hE
    refine lv_bipush (v := 12) hx hb dX2_layWorths_21 (by decide) ?_
    exact wX2_layWorths_J23 k r_1 x1 (12 : Int32) hC y hE H locs ls hP hS (lv_sub hl [0, 1] rfl)
  · have hE := iq c_2 hE
    refine lv_aload_n hx hb dX2_layWorths_14 rfl (lv_at hl 0 rfl) ?_
    refine gM_373 hC hP dX2_layWorths_15 ?_
    refine lv_goto (tgt := 23) hx hb dX2_layWorths_18 (by decide) ?_
    exact wX2_layWorths_J23 k r_1 x1 (r_1.1 27) hC y hE H locs ls hP hS (lv_sub hl [0, 1] rfl)
def fX2_worth (k : Nat) (z : MS) (x1 : Int32) (x2 : Int32) (x3 : Int32) : Option (Int64 × MS) := (fX2_areRunning z x1 x2).bind fun r_1 => if r_1 = 0 then (some ((-1 : Int64), z)) else ((fX2_layWorths k z x1 x2).bind fun r_3 => (fX2_tens k r_3.1).bind fun r_5 => (fX2_part k (r_3.2.2.2.2 28 (0 : Int32).toNatClampNeg) r_5 x3).bind fun r_6 => some (r_6, r_3.2))
set_option maxHeartbeats 1000000 in
theorem wX2_worth {l : Launch} {E : ME} (k : Nat) (z : MS) (x1 : Int32) (x2 : Int32) (x3 : Int32) (y : Int64 × MS) (hE : fX2_worth k z x1 x2 x3 = some y) : mM l yX2_worth (ws_ yX2_worth cX2_worth 5 (some .long)) rmX2_worth E z [.int x1, .int x2, .int x3] (some (.long y.1)) y.2 := by
  refine m_met (by decide) rfl (Nat.le_of_ble_eq_true rfl) (fun p e s m args below meth c hC => ?_)
  intro H locs ls hP hS hl
  have hx := hC.1
  have hb := hC.2.1
  have hown := hC.2.2.2.2.2.1
  have hts := hC.2.2.2.2.2.2.1
  have hl : lv_has ls 5 [(0, .ref (E.2.2.2.1 0)), (1, .int x1), (2, .int x2), (3, .int x3)] := hl
  unfold fX2_worth at hE
  refine lv_aload_n hx hb dX2_worth_0 rfl (lv_at hl 0 rfl) ?_
  refine lv_iload_n hx hb dX2_worth_1 rfl (lv_at hl 1 rfl) ?_
  refine lv_iload_n hx hb dX2_worth_2 rfl (lv_at hl 2 rfl) ?_
  obtain ⟨r_1, h_1, hE⟩ := ob hE
  refine m_calli [.int x1, .int x2] hC hP hS hl.1 (wX2_areRunning z x1 x2 r_1 h_1) (cwV 2 hts lkX2_387 rfl rfl rfl cdX2_areRunning ⟨Nat.le_of_ble_eq_true rfl, Nat.le_of_ble_eq_true rfl⟩) rfl rfl (lv_room (Nat.le_of_ble_eq_true rfl)) dX2_worth_3 (fun H locs hP hS => ?_)
  refine lv_if_ne (tgt := 13) hx hb dX2_worth_6 (by decide) (fun c_2 => ?_) (fun c_2 => ?_)
  · have hE := iq c_2 hE
    refine lv_aload_n hx hb dX2_worth_13 rfl (lv_at hl 0 rfl) ?_
    refine lv_iload_n hx hb dX2_worth_14 rfl (lv_at hl 1 rfl) ?_
    refine lv_iload_n hx hb dX2_worth_15 rfl (lv_at hl 2 rfl) ?_
    obtain ⟨r_3, h_3, hE⟩ := ob hE
    refine m_calli [.int x1, .int x2] hC hP hS hl.1 (wX2_layWorths k z x1 x2 r_3 h_3) (cwV 2 hts lkX2_403 rfl rfl rfl cdX2_layWorths ⟨Nat.le_of_ble_eq_true rfl, Nat.le_of_ble_eq_true rfl⟩) rfl rfl (lv_room (Nat.le_of_ble_eq_true rfl)) dX2_worth_16 (fun H locs hP hS => ?_)
    refine lv_istore (lv' := [(4, .int r_3.1), (0, .ref (E.2.2.2.1 0)), (1, .int x1), (2, .int x2), (3, .int x3)]) hx hb dX2_worth_19 hl (Nat.le_of_ble_eq_true rfl) rfl (fun ls hl => ?_)
    refine lv_aload_n hx hb dX2_worth_21 rfl (lv_at hl 1 rfl) ?_
    refine gM_53 hC hP dX2_worth_22 ?_
    refine lv_iconst (v := 0) hx hb dX2_worth_25 (by decide) ?_
    refine aM_28 hC hP (i := (0 : Int32)) (by decide) dX2_worth_26 ?_
    refine lv_iload hx hb dX2_worth_27 (lv_at hl 0 rfl) ?_
    obtain ⟨r_5, h_5, hE⟩ := ob hE
    refine s_calll [.int r_3.1] hC.sC hl.1 (wX2_tens k r_3.1 r_5 h_5) (va_cwS 1 hts lkX2_393 rfl rfl rfl cdX2_tens ⟨Nat.le_of_ble_eq_true rfl, Nat.le_of_ble_eq_true rfl⟩) rfl rfl (lv_room (Nat.le_of_ble_eq_true rfl)) ⟨Nat.zero_le _, Nat.zero_le _⟩ dX2_worth_29 ?_
    refine lv_iload_n hx hb dX2_worth_32 rfl (lv_at hl 4 rfl) ?_
    obtain ⟨r_6, h_6, hE⟩ := ob hE
    refine s_calll [.long (r_3.2.2.2.2 28 (0 : Int32).toNatClampNeg), .long r_5, .int x3] hC.sC hl.1 (wX2_part k (r_3.2.2.2.2 28 (0 : Int32).toNatClampNeg) r_5 x3 r_6 h_6) (va_cwS 3 hts lkX2_397 rfl rfl rfl cdX2_part ⟨Nat.le_of_ble_eq_true rfl, Nat.le_of_ble_eq_true rfl⟩) rfl rfl (lv_room (Nat.le_of_ble_eq_true rfl)) ⟨Nat.zero_le _, Nat.zero_le _⟩ dX2_worth_33 ?_
    obtain rfl := Option.some.inj hE
    exact m_lret hC hP hS dX2_worth_36
  · have hE := ip c_2 hE
    refine lv_ldc2 (v := -1) hx hb hown (hts _ q1873) dX2_worth_9 ?_
    obtain rfl := Option.some.inj hE
    exact m_lret hC hP hS dX2_worth_12
def fX2_goesOn (k : Nat) (z : MS) (x1 : Int32) (x2 : Int32) (x3 : Int32) : Option (Int32 × MS) := (fX2_areRunning z x1 x2).bind fun r_1 => if r_1 = 0 then (some ((-1 : Int32), z)) else ((fX2_isIn x3 (0 : Int32) (11 : Int32)).bind fun r_3 => if r_3 = 0 then (some ((-1 : Int32), z)) else ((fX2_layWorths k z x1 x2).bind fun r_5 => if x3 < r_5.1 then (if ib (x3 + (1 : Int32)) 13 then none else ((fX2_caughtAt k r_5.2 x1 (x3 + (1 : Int32))).bind fun r_8 => if ib ((90 : Int32) + x3) 3205 then none else ((fX2_tens k (r_5.1 - x3)).bind fun r_10 => if (lg_cmp ((r_5.2.2.2.2 28 (x3 + (1 : Int32)).toNatClampNeg) * ((10 : Int32) - r_8.1).toInt64) ((r_8.2.2.2.1 0 ((90 : Int32) + x3).toNatClampNeg).toInt64 * r_10)) ≤ 0 then (some ((0 : Int32), r_8.2)) else (some ((1 : Int32), r_8.2))))) else (some ((-1 : Int32), r_5.2))))
set_option maxHeartbeats 1000000 in
theorem wX2_goesOn {l : Launch} {E : ME} (k : Nat) (z : MS) (x1 : Int32) (x2 : Int32) (x3 : Int32) (y : Int32 × MS) (hE : fX2_goesOn k z x1 x2 x3 = some y) : mM l yX2_goesOn (ws_ yX2_goesOn cX2_goesOn 5 (some .int)) rmX2_goesOn E z [.int x1, .int x2, .int x3] (some (.int y.1)) y.2 := by
  refine m_met (by decide) rfl (Nat.le_of_ble_eq_true rfl) (fun p e s m args below meth c hC => ?_)
  intro H locs ls hP hS hl
  have hx := hC.1
  have hb := hC.2.1
  have hown := hC.2.2.2.2.2.1
  have hts := hC.2.2.2.2.2.2.1
  have hl : lv_has ls 5 [(0, .ref (E.2.2.2.1 0)), (1, .int x1), (2, .int x2), (3, .int x3)] := hl
  unfold fX2_goesOn at hE
  refine lv_aload_n hx hb dX2_goesOn_0 rfl (lv_at hl 0 rfl) ?_
  refine lv_iload_n hx hb dX2_goesOn_1 rfl (lv_at hl 1 rfl) ?_
  refine lv_iload_n hx hb dX2_goesOn_2 rfl (lv_at hl 2 rfl) ?_
  obtain ⟨r_1, h_1, hE⟩ := ob hE
  refine m_calli [.int x1, .int x2] hC hP hS hl.1 (wX2_areRunning z x1 x2 r_1 h_1) (cwV 2 hts lkX2_387 rfl rfl rfl cdX2_areRunning ⟨Nat.le_of_ble_eq_true rfl, Nat.le_of_ble_eq_true rfl⟩) rfl rfl (lv_room (Nat.le_of_ble_eq_true rfl)) dX2_goesOn_3 (fun H locs hP hS => ?_)
  refine lv_if_eq (tgt := 19) hx hb dX2_goesOn_6 (by decide) (fun c_2 => ?_) (fun c_2 => ?_)
  · have hE := ip c_2 hE
    refine lv_iconst (v := -1) hx hb dX2_goesOn_19 (by decide) ?_
    obtain rfl := Option.some.inj hE
    exact m_iret hC hP hS dX2_goesOn_20
  · have hE := iq c_2 hE
    refine lv_iload_n hx hb dX2_goesOn_9 rfl (lv_at hl 3 rfl) ?_
    refine lv_iconst (v := 0) hx hb dX2_goesOn_10 (by decide) ?_
    refine lv_bipush (v := 11) hx hb dX2_goesOn_11 (by decide) ?_
    obtain ⟨r_3, h_3, hE⟩ := ob hE
    refine s_calli [.int x3, .int (0 : Int32), .int (11 : Int32)] hC.sC hl.1 (wX2_isIn x3 (0 : Int32) (11 : Int32) r_3 h_3) (va_cwS 3 hts lkX2_69 rfl rfl rfl cdX2_isIn ⟨Nat.le_of_ble_eq_true rfl, Nat.le_of_ble_eq_true rfl⟩) rfl rfl (lv_room (Nat.le_of_ble_eq_true rfl)) ⟨Nat.zero_le _, Nat.zero_le _⟩ dX2_goesOn_13 ?_
    refine lv_if_ne (tgt := 21) hx hb dX2_goesOn_16 (by decide) (fun c_4 => ?_) (fun c_4 => ?_)
    · have hE := iq c_4 hE
      refine lv_aload_n hx hb dX2_goesOn_21 rfl (lv_at hl 0 rfl) ?_
      refine lv_iload_n hx hb dX2_goesOn_22 rfl (lv_at hl 1 rfl) ?_
      refine lv_iload_n hx hb dX2_goesOn_23 rfl (lv_at hl 2 rfl) ?_
      obtain ⟨r_5, h_5, hE⟩ := ob hE
      refine m_calli [.int x1, .int x2] hC hP hS hl.1 (wX2_layWorths k z x1 x2 r_5 h_5) (cwV 2 hts lkX2_403 rfl rfl rfl cdX2_layWorths ⟨Nat.le_of_ble_eq_true rfl, Nat.le_of_ble_eq_true rfl⟩) rfl rfl (lv_room (Nat.le_of_ble_eq_true rfl)) dX2_goesOn_24 (fun H locs hP hS => ?_)
      refine lv_istore (lv' := [(4, .int r_5.1), (0, .ref (E.2.2.2.1 0)), (1, .int x1), (2, .int x2), (3, .int x3)]) hx hb dX2_goesOn_27 hl (Nat.le_of_ble_eq_true rfl) rfl (fun ls hl => ?_)
      refine lv_iload_n hx hb dX2_goesOn_29 rfl (lv_at hl 4 rfl) ?_
      refine lv_iload hx hb dX2_goesOn_30 (lv_at hl 0 rfl) ?_
      refine lv_icmp_lt (tgt := 37) hx hb dX2_goesOn_32 (by decide) (fun c_6 => ?_) (fun c_6 => ?_)
      · have hE := ip c_6 hE
        refine lv_aload_n hx hb dX2_goesOn_37 rfl (lv_at hl 1 rfl) ?_
        refine gM_53 hC hP dX2_goesOn_38 ?_
        refine lv_iload_n hx hb dX2_goesOn_41 rfl (lv_at hl 4 rfl) ?_
        refine lv_iconst (v := 1) hx hb dX2_goesOn_42 (by decide) ?_
        refine lv_iadd hx hb dX2_goesOn_43 ?_
        obtain ⟨c_7, hE⟩ := og hE
        refine aM_28 hC hP c_7 dX2_goesOn_44 ?_
        refine lv_bipush (v := 10) hx hb dX2_goesOn_45 (by decide) ?_
        refine lv_aload_n hx hb dX2_goesOn_47 rfl (lv_at hl 1 rfl) ?_
        refine lv_iload_n hx hb dX2_goesOn_48 rfl (lv_at hl 2 rfl) ?_
        refine lv_iload_n hx hb dX2_goesOn_49 rfl (lv_at hl 4 rfl) ?_
        refine lv_iconst (v := 1) hx hb dX2_goesOn_50 (by decide) ?_
        refine lv_iadd hx hb dX2_goesOn_51 ?_
        obtain ⟨r_8, h_8, hE⟩ := ob hE
        refine m_calli [.int x1, .int (x3 + (1 : Int32))] hC hP hS hl.1 (wX2_caughtAt k r_5.2 x1 (x3 + (1 : Int32)) r_8 h_8) (cwV 2 hts lkX2_379 rfl rfl rfl cdX2_caughtAt ⟨Nat.le_of_ble_eq_true rfl, Nat.le_of_ble_eq_true rfl⟩) rfl rfl (lv_room (Nat.le_of_ble_eq_true rfl)) dX2_goesOn_52 (fun H locs hP hS => ?_)
        refine lv_isub hx hb dX2_goesOn_55 ?_
        refine lv_i2l hx hb dX2_goesOn_56 rfl ?_
        refine lv_lmul hx hb dX2_goesOn_57 ?_
        refine lv_aload_n hx hb dX2_goesOn_58 rfl (lv_at hl 1 rfl) ?_
        refine gM_7 hC hP dX2_goesOn_59 ?_
        refine lv_bipush (v := 90) hx hb dX2_goesOn_62 (by decide) ?_
        refine lv_iload_n hx hb dX2_goesOn_64 rfl (lv_at hl 4 rfl) ?_
        refine lv_iadd hx hb dX2_goesOn_65 ?_
        obtain ⟨c_9, hE⟩ := og hE
        refine aM_0 hC hP c_9 dX2_goesOn_66 ?_
        refine lv_i2l hx hb dX2_goesOn_67 rfl ?_
        refine lv_iload hx hb dX2_goesOn_68 (lv_at hl 0 rfl) ?_
        refine lv_iload_n hx hb dX2_goesOn_70 rfl (lv_at hl 4 rfl) ?_
        refine lv_isub hx hb dX2_goesOn_71 ?_
        obtain ⟨r_10, h_10, hE⟩ := ob hE
        refine s_calll [.int (r_5.1 - x3)] hC.sC hl.1 (wX2_tens k (r_5.1 - x3) r_10 h_10) (va_cwS 1 hts lkX2_393 rfl rfl rfl cdX2_tens ⟨Nat.le_of_ble_eq_true rfl, Nat.le_of_ble_eq_true rfl⟩) rfl rfl (lv_room (Nat.le_of_ble_eq_true rfl)) ⟨Nat.zero_le _, Nat.zero_le _⟩ dX2_goesOn_72 ?_
        refine lv_lmul hx hb dX2_goesOn_75 ?_
        refine W.lcmp hx hb dX2_goesOn_76 ?_
        refine lv_if_le (tgt := 84) hx hb dX2_goesOn_77 (by decide) (fun c_11 => ?_) (fun c_11 => ?_)
        · have hE := ip c_11 hE
          refine lv_iconst (v := 0) hx hb dX2_goesOn_84 (by decide) ?_
          obtain rfl := Option.some.inj hE
          exact m_iret hC hP hS dX2_goesOn_85
        · have hE := iq c_11 hE
          refine lv_iconst (v := 1) hx hb dX2_goesOn_80 (by decide) ?_
          refine lv_goto (tgt := 85) hx hb dX2_goesOn_81 (by decide) ?_
          obtain rfl := Option.some.inj hE
          exact m_iret hC hP hS dX2_goesOn_85
      · have hE := iq c_6 hE
        refine lv_iconst (v := -1) hx hb dX2_goesOn_35 (by decide) ?_
        obtain rfl := Option.some.inj hE
        exact m_iret hC hP hS dX2_goesOn_36
    · have hE := ip c_4 hE
      refine lv_iconst (v := -1) hx hb dX2_goesOn_19 (by decide) ?_
      obtain rfl := Option.some.inj hE
      exact m_iret hC hP hS dX2_goesOn_20
def fX2_best_B19 (k : Nat) (v1 : Int32) (a : Int32 × Int64 × Int32 × MS) : Option ((Int32 × Int64 × Int32 × MS) ⊕ (Int32 × MS)) := if (30 : Int32) ≤ a.2.2.1 then (some (.inr (a.1, a.2.2.2))) else ((fX2_layWorths k a.2.2.2 v1 a.2.2.1).bind fun r_4 => (fX2_tens k ((12 : Int32) - r_4.1)).bind fun r_6 => if 0 < (lg_cmp ((r_4.2.2.2.2 28 (0 : Int32).toNatClampNeg) * r_6) a.2.1) then (some (.inl (a.2.2.1, ((r_4.2.2.2.2 28 (0 : Int32).toNatClampNeg) * r_6), (a.2.2.1 + (1 : Int32)), r_4.2))) else (some (.inl (a.1, a.2.1, (a.2.2.1 + (1 : Int32)), r_4.2))))
set_option maxHeartbeats 1000000 in
theorem wX2_best_B19 {p : Program} {l : Launch} {e : Env} {s : State} {m : MethodId} {args : Array Value} {below : List Frame} {meth : Method} {c : Code} {E : ME} {Q : State → Prop} (k : Nat) (v1 : Int32) (hC : mC E cX2_best 9 (some .int) p s m args meth c) (a : Int32 × Int64 × Int32 × MS) (y : (Int32 × Int64 × Int32 × MS) ⊕ (Int32 × MS)) (hE : fX2_best_B19 k v1 a = some y) (hc : ∀ a : Int32 × Int64 × Int32 × MS, y = .inl a → mW p l e rmX2_best s m args below meth c E 9 Q 19 [(0, .ref (E.2.2.2.1 0)), (1, .int v1), (2, .int a.1), (3, .long a.2.1), (5, .int a.2.2.1)] [] a.2.2.2) (hx1 : ∀ b : Int32 × MS, y = .inr b → mW p l e rmX2_best s m args below meth c E 9 Q 74 [(2, .int b.1)] [] b.2) : mW p l e rmX2_best s m args below meth c E 9 Q 19 [(0, .ref (E.2.2.2.1 0)), (1, .int v1), (2, .int a.1), (3, .long a.2.1), (5, .int a.2.2.1)] [] a.2.2.2 := by
  intro H locs ls hP hS hl
  have hx := hC.1
  have hb := hC.2.1
  have hown := hC.2.2.2.2.2.1
  have hts := hC.2.2.2.2.2.2.1
  unfold fX2_best_B19 at hE
  refine lv_iload hx hb dX2_best_19 (lv_at hl 4 rfl) ?_
  refine lv_bipush (v := 30) hx hb dX2_best_21 (by decide) ?_
  refine lv_icmp_ge (tgt := 74) hx hb dX2_best_23 (by decide) (fun c_3 => ?_) (fun c_3 => ?_)
  · have hE := ip c_3 hE
    exact hx1 _ (Option.some.inj hE).symm H locs ls hP hS (lv_sub hl [2] rfl)
  · have hE := iq c_3 hE
    refine lv_aload_n hx hb dX2_best_26 rfl (lv_at hl 0 rfl) ?_
    refine lv_iload_n hx hb dX2_best_27 rfl (lv_at hl 1 rfl) ?_
    refine lv_iload hx hb dX2_best_28 (lv_at hl 4 rfl) ?_
    obtain ⟨r_4, h_4, hE⟩ := ob hE
    refine m_calli [.int v1, .int a.2.2.1] hC hP hS hl.1 (wX2_layWorths k a.2.2.2 v1 a.2.2.1 r_4 h_4) (cwV 2 hts lkX2_403 rfl rfl rfl cdX2_layWorths ⟨Nat.le_of_ble_eq_true rfl, Nat.le_of_ble_eq_true rfl⟩) rfl rfl (lv_room (Nat.le_of_ble_eq_true rfl)) dX2_best_30 (fun H locs hP hS => ?_)
    refine lv_istore (lv' := [(6, .int r_4.1), (0, .ref (E.2.2.2.1 0)), (1, .int v1), (2, .int a.1), (3, .long a.2.1), (5, .int a.2.2.1)]) hx hb dX2_best_33 hl (Nat.le_of_ble_eq_true rfl) rfl (fun ls hl => ?_)
    refine lv_aload_n hx hb dX2_best_35 rfl (lv_at hl 1 rfl) ?_
    refine gM_53 hC hP dX2_best_36 ?_
    refine lv_iconst (v := 0) hx hb dX2_best_39 (by decide) ?_
    refine aM_28 hC hP (i := (0 : Int32)) (by decide) dX2_best_40 ?_
    refine lv_bipush (v := 12) hx hb dX2_best_41 (by decide) ?_
    refine lv_iload hx hb dX2_best_43 (lv_at hl 0 rfl) ?_
    refine lv_isub hx hb dX2_best_45 ?_
    obtain ⟨r_6, h_6, hE⟩ := ob hE
    refine s_calll [.int ((12 : Int32) - r_4.1)] hC.sC hl.1 (wX2_tens k ((12 : Int32) - r_4.1) r_6 h_6) (va_cwS 1 hts lkX2_393 rfl rfl rfl cdX2_tens ⟨Nat.le_of_ble_eq_true rfl, Nat.le_of_ble_eq_true rfl⟩) rfl rfl (lv_room (Nat.le_of_ble_eq_true rfl)) ⟨Nat.zero_le _, Nat.zero_le _⟩ dX2_best_46 ?_
    refine lv_lmul hx hb dX2_best_49 ?_
    refine lv_lstore (lv' := [(7, .long ((r_4.2.2.2.2 28 (0 : Int32).toNatClampNeg) * r_6)), (6, .int r_4.1), (0, .ref (E.2.2.2.1 0)), (1, .int v1), (2, .int a.1), (3, .long a.2.1), (5, .int a.2.2.1)]) hx hb dX2_best_50 hl (Nat.le_of_ble_eq_true rfl) rfl (fun ls hl => ?_)
    refine lv_lload hx hb dX2_best_52 (lv_at hl 0 rfl) ?_
    refine lv_lload_n hx hb dX2_best_54 rfl (lv_at hl 5 rfl) ?_
    refine W.lcmp hx hb dX2_best_55 ?_
    refine lv_if_gt (tgt := 62) hx hb dX2_best_56 (by decide) (fun c_7 => ?_) (fun c_7 => ?_)
    · have hE := ip c_7 hE
      refine lv_lload hx hb dX2_best_62 (lv_at hl 0 rfl) ?_
      refine lv_lstore_n (lv' := [(3, .long ((r_4.2.2.2.2 28 (0 : Int32).toNatClampNeg) * r_6)), (7, .long ((r_4.2.2.2.2 28 (0 : Int32).toNatClampNeg) * r_6)), (6, .int r_4.1), (0, .ref (E.2.2.2.1 0)), (1, .int v1), (2, .int a.1), (5, .int a.2.2.1)]) hx hb dX2_best_64 rfl hl (Nat.le_of_ble_eq_true rfl) rfl (fun ls hl => ?_)
      refine lv_iload hx hb dX2_best_65 (lv_at hl 6 rfl) ?_
      refine lv_istore_n (lv' := [(2, .int a.2.2.1), (3, .long ((r_4.2.2.2.2 28 (0 : Int32).toNatClampNeg) * r_6)), (7, .long ((r_4.2.2.2.2 28 (0 : Int32).toNatClampNeg) * r_6)), (6, .int r_4.1), (0, .ref (E.2.2.2.1 0)), (1, .int v1), (5, .int a.2.2.1)]) hx hb dX2_best_67 rfl hl (Nat.le_of_ble_eq_true rfl) rfl (fun ls hl => ?_)
      refine lv_iinc (v := (a.2.2.1 + (1 : Int32))) (lv' := [(5, .int (a.2.2.1 + (1 : Int32))), (2, .int a.2.2.1), (3, .long ((r_4.2.2.2.2 28 (0 : Int32).toNatClampNeg) * r_6)), (7, .long ((r_4.2.2.2.2 28 (0 : Int32).toNatClampNeg) * r_6)), (6, .int r_4.1), (0, .ref (E.2.2.2.1 0)), (1, .int v1)]) hx hb dX2_best_68 hl (k := 6) rfl rfl (Nat.le_of_ble_eq_true rfl) rfl (fun ls hl => ?_)
      refine lv_goto (tgt := 19) hx hb dX2_best_71 (by decide) ?_
      exact hc _ (Option.some.inj hE).symm H locs ls hP hS (lv_sub hl [5, 6, 1, 2, 0] rfl)
    · have hE := iq c_7 hE
      refine lv_goto (tgt := 68) hx hb dX2_best_59 (by decide) ?_
      refine lv_iinc (v := (a.2.2.1 + (1 : Int32))) (lv' := [(5, .int (a.2.2.1 + (1 : Int32))), (7, .long ((r_4.2.2.2.2 28 (0 : Int32).toNatClampNeg) * r_6)), (6, .int r_4.1), (0, .ref (E.2.2.2.1 0)), (1, .int v1), (2, .int a.1), (3, .long a.2.1)]) hx hb dX2_best_68 hl (k := 6) rfl rfl (Nat.le_of_ble_eq_true rfl) rfl (fun ls hl => ?_)
      refine lv_goto (tgt := 19) hx hb dX2_best_71 (by decide) ?_
      exact hc _ (Option.some.inj hE).symm H locs ls hP hS (lv_sub hl [3, 4, 5, 6, 0] rfl)
def fX2_best (k : Nat) (z : MS) (x1 : Int32) : Option (Int32 × MS) := (fX2_isChild z x1).bind fun r_1 => if r_1 = 0 then (some ((-1 : Int32), z)) else ((lpo (fX2_best_B19 k x1) k ((0 : Int32), (-1 : Int64), (0 : Int32), z)).bind fun x_8 => some (x_8.1, x_8.2))
set_option maxHeartbeats 1000000 in
theorem wX2_best {l : Launch} {E : ME} (k : Nat) (z : MS) (x1 : Int32) (y : Int32 × MS) (hE : fX2_best k z x1 = some y) : mM l yX2_best (ws_ yX2_best cX2_best 9 (some .int)) rmX2_best E z [.int x1] (some (.int y.1)) y.2 := by
  refine m_met (by decide) rfl (Nat.le_of_ble_eq_true rfl) (fun p e s m args below meth c hC => ?_)
  intro H locs ls hP hS hl
  have hx := hC.1
  have hb := hC.2.1
  have hown := hC.2.2.2.2.2.1
  have hts := hC.2.2.2.2.2.2.1
  have hl : lv_has ls 9 [(0, .ref (E.2.2.2.1 0)), (1, .int x1)] := hl
  unfold fX2_best at hE
  refine lv_aload_n hx hb dX2_best_0 rfl (lv_at hl 0 rfl) ?_
  refine lv_iload_n hx hb dX2_best_1 rfl (lv_at hl 1 rfl) ?_
  obtain ⟨r_1, h_1, hE⟩ := ob hE
  refine m_calli [.int x1] hC hP hS hl.1 (wX2_isChild z x1 r_1 h_1) (cwV 1 hts lkX2_322 rfl rfl rfl cdX2_isChild ⟨Nat.le_of_ble_eq_true rfl, Nat.le_of_ble_eq_true rfl⟩) rfl rfl (lv_room (Nat.le_of_ble_eq_true rfl)) dX2_best_2 (fun H locs hP hS => ?_)
  refine lv_if_ne (tgt := 10) hx hb dX2_best_5 (by decide) (fun c_2 => ?_) (fun c_2 => ?_)
  · have hE := iq c_2 hE
    refine lv_iconst (v := 0) hx hb dX2_best_10 (by decide) ?_
    refine lv_istore_n (lv' := [(2, .int (0 : Int32)), (0, .ref (E.2.2.2.1 0)), (1, .int x1)]) hx hb dX2_best_11 rfl hl (Nat.le_of_ble_eq_true rfl) rfl (fun ls hl => ?_)
    refine lv_ldc2 (v := -1) hx hb hown (hts _ q1873) dX2_best_12 ?_
    refine lv_lstore_n (lv' := [(3, .long (-1 : Int64)), (2, .int (0 : Int32)), (0, .ref (E.2.2.2.1 0)), (1, .int x1)]) hx hb dX2_best_15 rfl hl (Nat.le_of_ble_eq_true rfl) rfl (fun ls hl => ?_)
    refine lv_iconst (v := 0) hx hb dX2_best_16 (by decide) ?_
    refine lv_istore (lv' := [(5, .int (0 : Int32)), (3, .long (-1 : Int64)), (2, .int (0 : Int32)), (0, .ref (E.2.2.2.1 0)), (1, .int x1)]) hx hb dX2_best_17 hl (Nat.le_of_ble_eq_true rfl) rfl (fun ls hl => ?_)
    obtain ⟨x_8, h_8, hE⟩ := ob hE
    refine lpo_walk (fun p_8 : Int32 × Int64 × Int32 × MS => mW p l e rmX2_best s m args below meth c E 9 (mQ E below args s (some (.int y.1)) y.2) 19 [(0, .ref (E.2.2.2.1 0)), (1, .int x1), (2, .int p_8.1), (3, .long p_8.2.1), (5, .int p_8.2.2.1)] [] p_8.2.2.2) (fun q_8 : Int32 × MS => mW p l e rmX2_best s m args below meth c E 9 (mQ E below args s (some (.int y.1)) y.2) 74 [(2, .int q_8.1)] [] q_8.2) (fun a_8 y_8 hB_8 hc_8 hx_8 => wX2_best_B19 k x1 hC a_8 y_8 hB_8 hc_8 hx_8) _ _ x_8 h_8 ?_ H locs ls hP hS (lv_sub hl [3, 4, 2, 1, 0] rfl)
    intro H locs ls hP hS hl
    refine lv_iload_n hx hb dX2_best_74 rfl (lv_at hl 0 rfl) ?_
    obtain rfl := Option.some.inj hE
    exact m_iret hC hP hS dX2_best_75
  · have hE := ip c_2 hE
    refine lv_iconst (v := -1) hx hb dX2_best_8 (by decide) ?_
    obtain rfl := Option.some.inj hE
    exact m_iret hC hP hS dX2_best_9
def fX2_tell (z : MS) (x1 : Int32) (x2 : Int32) (x3 : Int32) : Option (Int32 × MS) := if x1 = (-1 : Int32) then (nm (mA z 0 (upd (z.2.2.1 0) (4 : Int32).toNatClampNeg (0 : Int32))) fun z_18 => some ((0 : Int32), z_18)) else ((fX2_isIn x1 (0 : Int32) (11 : Int32)).bind fun r_2 => if r_2 = 0 then (some ((-2 : Int32), z)) else ((fX2_isIn x2 (1 : Int32) ((12 : Int32) - x1)).bind fun r_4 => if r_4 = 0 then (some ((-2 : Int32), z)) else ((fX2_isIn x3 (0 : Int32) (12 : Int32)).bind fun r_6 => if r_6 = 0 then (some ((-2 : Int32), z)) else (if (z.2.2.1 0 (4 : Int32).toNatClampNeg) = (6 : Int32) then (some ((-2 : Int32), z)) else (nm ((103 : Int32) + ((3 : Int32) * (z.2.2.1 0 (4 : Int32).toNatClampNeg))) fun v_11 => if ib v_11 3205 then none else (nm (mA z 0 (upd (z.2.2.1 0) v_11.toNatClampNeg x1)) fun z_12 => if ib (v_11 + (1 : Int32)) 3205 then none else (nm (mA z_12 0 (upd (z_12.2.2.1 0) (v_11 + (1 : Int32)).toNatClampNeg x2)) fun z_13 => if ib (v_11 + (2 : Int32)) 3205 then none else (nm (mA z_13 0 (upd (z_13.2.2.1 0) (v_11 + (2 : Int32)).toNatClampNeg x3)) fun z_14 => nm (mA z_14 0 (upd (z_14.2.2.1 0) (4 : Int32).toNatClampNeg ((z_14.2.2.1 0 (4 : Int32).toNatClampNeg) + (1 : Int32)))) fun z_16 => some ((z_16.2.2.1 0 (4 : Int32).toNatClampNeg), z_16)))))))))
set_option maxHeartbeats 1000000 in
theorem wX2_tell {l : Launch} {E : ME} (z : MS) (x1 : Int32) (x2 : Int32) (x3 : Int32) (y : Int32 × MS) (hE : fX2_tell z x1 x2 x3 = some y) : mM l yX2_tell (ws_ yX2_tell cX2_tell 5 (some .int)) rmX2_tell E z [.int x1, .int x2, .int x3] (some (.int y.1)) y.2 := by
  refine m_met (by decide) rfl (Nat.le_of_ble_eq_true rfl) (fun p e s m args below meth c hC => ?_)
  intro H locs ls hP hS hl
  have hx := hC.1
  have hb := hC.2.1
  have hown := hC.2.2.2.2.2.1
  have hts := hC.2.2.2.2.2.2.1
  have hl : lv_has ls 5 [(0, .ref (E.2.2.2.1 0)), (1, .int x1), (2, .int x2), (3, .int x3)] := hl
  unfold fX2_tell at hE
  refine lv_iload_n hx hb dX2_tell_0 rfl (lv_at hl 1 rfl) ?_
  refine lv_iconst (v := -1) hx hb dX2_tell_1 (by decide) ?_
  refine lv_icmp_ne (tgt := 14) hx hb dX2_tell_2 (by decide) (fun c_1 => ?_) (fun c_1 => ?_)
  · have hE := iq c_1 hE
    refine lv_iload_n hx hb dX2_tell_14 rfl (lv_at hl 1 rfl) ?_
    refine lv_iconst (v := 0) hx hb dX2_tell_15 (by decide) ?_
    refine lv_bipush (v := 11) hx hb dX2_tell_16 (by decide) ?_
    obtain ⟨r_2, h_2, hE⟩ := ob hE
    refine s_calli [.int x1, .int (0 : Int32), .int (11 : Int32)] hC.sC hl.1 (wX2_isIn x1 (0 : Int32) (11 : Int32) r_2 h_2) (va_cwS 3 hts lkX2_69 rfl rfl rfl cdX2_isIn ⟨Nat.le_of_ble_eq_true rfl, Nat.le_of_ble_eq_true rfl⟩) rfl rfl (lv_room (Nat.le_of_ble_eq_true rfl)) ⟨Nat.zero_le _, Nat.zero_le _⟩ dX2_tell_18 ?_
    refine lv_if_eq (tgt := 57) hx hb dX2_tell_21 (by decide) (fun c_3 => ?_) (fun c_3 => ?_)
    · have hE := ip c_3 hE
      refine lv_bipush (v := -2) hx hb dX2_tell_57 (by decide) ?_
      obtain rfl := Option.some.inj hE
      exact m_iret hC hP hS dX2_tell_59
    · have hE := iq c_3 hE
      refine lv_iload_n hx hb dX2_tell_24 rfl (lv_at hl 2 rfl) ?_
      refine lv_iconst (v := 1) hx hb dX2_tell_25 (by decide) ?_
      refine lv_bipush (v := 12) hx hb dX2_tell_26 (by decide) ?_
      refine lv_iload_n hx hb dX2_tell_28 rfl (lv_at hl 1 rfl) ?_
      refine lv_isub hx hb dX2_tell_29 ?_
      obtain ⟨r_4, h_4, hE⟩ := ob hE
      refine s_calli [.int x2, .int (1 : Int32), .int ((12 : Int32) - x1)] hC.sC hl.1 (wX2_isIn x2 (1 : Int32) ((12 : Int32) - x1) r_4 h_4) (va_cwS 3 hts lkX2_69 rfl rfl rfl cdX2_isIn ⟨Nat.le_of_ble_eq_true rfl, Nat.le_of_ble_eq_true rfl⟩) rfl rfl (lv_room (Nat.le_of_ble_eq_true rfl)) ⟨Nat.zero_le _, Nat.zero_le _⟩ dX2_tell_30 ?_
      refine lv_if_eq (tgt := 57) hx hb dX2_tell_33 (by decide) (fun c_5 => ?_) (fun c_5 => ?_)
      · have hE := ip c_5 hE
        refine lv_bipush (v := -2) hx hb dX2_tell_57 (by decide) ?_
        obtain rfl := Option.some.inj hE
        exact m_iret hC hP hS dX2_tell_59
      · have hE := iq c_5 hE
        refine lv_iload_n hx hb dX2_tell_36 rfl (lv_at hl 3 rfl) ?_
        refine lv_iconst (v := 0) hx hb dX2_tell_37 (by decide) ?_
        refine lv_bipush (v := 12) hx hb dX2_tell_38 (by decide) ?_
        obtain ⟨r_6, h_6, hE⟩ := ob hE
        refine s_calli [.int x3, .int (0 : Int32), .int (12 : Int32)] hC.sC hl.1 (wX2_isIn x3 (0 : Int32) (12 : Int32) r_6 h_6) (va_cwS 3 hts lkX2_69 rfl rfl rfl cdX2_isIn ⟨Nat.le_of_ble_eq_true rfl, Nat.le_of_ble_eq_true rfl⟩) rfl rfl (lv_room (Nat.le_of_ble_eq_true rfl)) ⟨Nat.zero_le _, Nat.zero_le _⟩ dX2_tell_40 ?_
        refine lv_if_eq (tgt := 57) hx hb dX2_tell_43 (by decide) (fun c_7 => ?_) (fun c_7 => ?_)
        · have hE := ip c_7 hE
          refine lv_bipush (v := -2) hx hb dX2_tell_57 (by decide) ?_
          obtain rfl := Option.some.inj hE
          exact m_iret hC hP hS dX2_tell_59
        · have hE := iq c_7 hE
          refine lv_aload_n hx hb dX2_tell_46 rfl (lv_at hl 0 rfl) ?_
          refine gM_7 hC hP dX2_tell_47 ?_
          refine lv_iconst (v := 4) hx hb dX2_tell_50 (by decide) ?_
          refine aM_0 hC hP (i := (4 : Int32)) (by decide) dX2_tell_51 ?_
          refine lv_bipush (v := 6) hx hb dX2_tell_52 (by decide) ?_
          refine lv_icmp_ne (tgt := 60) hx hb dX2_tell_54 (by decide) (fun c_9 => ?_) (fun c_9 => ?_)
          · have hE := iq c_9 hE
            refine lv_bipush (v := 103) hx hb dX2_tell_60 (by decide) ?_
            refine lv_iconst (v := 3) hx hb dX2_tell_62 (by decide) ?_
            refine lv_aload_n hx hb dX2_tell_63 rfl (lv_at hl 0 rfl) ?_
            refine gM_7 hC hP dX2_tell_64 ?_
            refine lv_iconst (v := 4) hx hb dX2_tell_67 (by decide) ?_
            refine aM_0 hC hP (i := (4 : Int32)) (by decide) dX2_tell_68 ?_
            refine lv_imul hx hb dX2_tell_69 ?_
            refine lv_iadd hx hb dX2_tell_70 ?_
            refine nm_i hE (fun v_11 ev_11 hE => ?_)
            refine lv_istore (lv' := [(4, .int v_11), (0, .ref (E.2.2.2.1 0)), (1, .int x1), (2, .int x2), (3, .int x3)]) hx hb dX2_tell_71 hl (Nat.le_of_ble_eq_true rfl) rfl (fun ls hl => ?_)
            refine lv_aload_n hx hb dX2_tell_73 rfl (lv_at hl 1 rfl) ?_
            refine gM_7 hC hP dX2_tell_74 ?_
            refine lv_iload hx hb dX2_tell_77 (lv_at hl 0 rfl) ?_
            refine lv_iload_n hx hb dX2_tell_79 rfl (lv_at hl 2 rfl) ?_
            obtain ⟨c_12, hE⟩ := og hE
            obtain ⟨z_12, ez_12, hE⟩ := on hE
            refine tM_0 hC hP hS c_12 ez_12 dX2_tell_80 (fun H locs hP hS => ?_)
            refine lv_aload_n hx hb dX2_tell_81 rfl (lv_at hl 1 rfl) ?_
            refine gM_7 hC hP dX2_tell_82 ?_
            refine lv_iload hx hb dX2_tell_85 (lv_at hl 0 rfl) ?_
            refine lv_iconst (v := 1) hx hb dX2_tell_87 (by decide) ?_
            refine lv_iadd hx hb dX2_tell_88 ?_
            refine lv_iload_n hx hb dX2_tell_89 rfl (lv_at hl 3 rfl) ?_
            obtain ⟨c_13, hE⟩ := og hE
            obtain ⟨z_13, ez_13, hE⟩ := on hE
            refine tM_0 hC hP hS c_13 ez_13 dX2_tell_90 (fun H locs hP hS => ?_)
            refine lv_aload_n hx hb dX2_tell_91 rfl (lv_at hl 1 rfl) ?_
            refine gM_7 hC hP dX2_tell_92 ?_
            refine lv_iload hx hb dX2_tell_95 (lv_at hl 0 rfl) ?_
            refine lv_iconst (v := 2) hx hb dX2_tell_97 (by decide) ?_
            refine lv_iadd hx hb dX2_tell_98 ?_
            refine lv_iload_n hx hb dX2_tell_99 rfl (lv_at hl 4 rfl) ?_
            obtain ⟨c_14, hE⟩ := og hE
            obtain ⟨z_14, ez_14, hE⟩ := on hE
            refine tM_0 hC hP hS c_14 ez_14 dX2_tell_100 (fun H locs hP hS => ?_)
            refine lv_aload_n hx hb dX2_tell_101 rfl (lv_at hl 1 rfl) ?_
            refine gM_7 hC hP dX2_tell_102 ?_
            refine lv_iconst (v := 4) hx hb dX2_tell_105 (by decide) ?_
            refine lv_dup2_11 hx hb dX2_tell_106 rfl rfl ?_
            refine aM_0 hC hP (i := (4 : Int32)) (by decide) dX2_tell_107 ?_
            refine lv_iconst (v := 1) hx hb dX2_tell_108 (by decide) ?_
            refine lv_iadd hx hb dX2_tell_109 ?_
            obtain ⟨z_16, ez_16, hE⟩ := on hE
            refine tM_0 hC hP hS (i := (4 : Int32)) (by decide) ez_16 dX2_tell_110 (fun H locs hP hS => ?_)
            refine lv_aload_n hx hb dX2_tell_111 rfl (lv_at hl 1 rfl) ?_
            refine gM_7 hC hP dX2_tell_112 ?_
            refine lv_iconst (v := 4) hx hb dX2_tell_115 (by decide) ?_
            refine aM_0 hC hP (i := (4 : Int32)) (by decide) dX2_tell_116 ?_
            obtain rfl := Option.some.inj hE
            exact m_iret hC hP hS dX2_tell_117
          · have hE := ip c_9 hE
            refine lv_bipush (v := -2) hx hb dX2_tell_57 (by decide) ?_
            obtain rfl := Option.some.inj hE
            exact m_iret hC hP hS dX2_tell_59
  · have hE := ip c_1 hE
    refine lv_aload_n hx hb dX2_tell_5 rfl (lv_at hl 0 rfl) ?_
    refine gM_7 hC hP dX2_tell_6 ?_
    refine lv_iconst (v := 4) hx hb dX2_tell_9 (by decide) ?_
    refine lv_iconst (v := 0) hx hb dX2_tell_10 (by decide) ?_
    obtain ⟨z_18, ez_18, hE⟩ := on hE
    refine tM_0 hC hP hS (i := (4 : Int32)) (by decide) ez_18 dX2_tell_11 (fun H locs hP hS => ?_)
    refine lv_iconst (v := 0) hx hb dX2_tell_12 (by decide) ?_
    obtain rfl := Option.some.inj hE
    exact m_iret hC hP hS dX2_tell_13
def fX2_bits_B4 (k : Nat)  (a : Int32 × Int32) : Option ((Int32 × Int32) ⊕ Int32) := if a.2 = 0 then (some (.inr a.1)) else (some (.inl ((a.1 + (1 : Int32)), (a.2 &&& (a.2 - (1 : Int32))))))
set_option maxHeartbeats 1000000 in
theorem wX2_bits_B4 {p : Program} {l : Launch} {e : Env} {s : State} {m : MethodId} {args : Array Value} {below : List Frame} {meth : Method} {c : Code} {Q : State → Prop} (k : Nat)  (hC : sC RX2 cX2_bits 3 (some .int) p s m args meth c) (a : Int32 × Int32) (y : (Int32 × Int32) ⊕ Int32) (hE : fX2_bits_B4 k  a = some y) (hc : ∀ a : Int32 × Int32, y = .inl a → sW p l e rmX2_bits s m args below meth c 3 Q 4 [(1, .int a.1), (2, .int a.2)] []) (hx1 : ∀ b : Int32, y = .inr b → sW p l e rmX2_bits s m args below meth c 3 Q 20 [(1, .int b)] []) : sW p l e rmX2_bits s m args below meth c 3 Q 4 [(1, .int a.1), (2, .int a.2)] [] := by
  intro ls hl
  have hx := hC.1
  have hb := hC.2.1
  have hown := hC.2.2.2.2.2.1
  have hts := hC.2.2.2.2.2.2
  unfold fX2_bits_B4 at hE
  refine lv_iload_n hx hb dX2_bits_4 rfl (lv_at hl 1 rfl) ?_
  refine lv_if_eq (tgt := 20) hx hb dX2_bits_5 (by decide) (fun c_1 => ?_) (fun c_1 => ?_)
  · have hE := ip c_1 hE
    exact hx1 _ (Option.some.inj hE).symm ls (lv_sub hl [0] rfl)
  · have hE := iq c_1 hE
    refine lv_iinc (v := (a.1 + (1 : Int32))) (lv' := [(1, .int (a.1 + (1 : Int32))), (2, .int a.2)]) hx hb dX2_bits_8 hl (k := 0) rfl rfl (Nat.le_of_ble_eq_true rfl) rfl (fun ls hl => ?_)
    refine lv_iload_n hx hb dX2_bits_11 rfl (lv_at hl 1 rfl) ?_
    refine lv_iload_n hx hb dX2_bits_12 rfl (lv_at hl 1 rfl) ?_
    refine lv_iconst (v := 1) hx hb dX2_bits_13 (by decide) ?_
    refine lv_isub hx hb dX2_bits_14 ?_
    refine lv_iand hx hb dX2_bits_15 ?_
    refine lv_istore_n (lv' := [(2, .int (a.2 &&& (a.2 - (1 : Int32)))), (1, .int (a.1 + (1 : Int32)))]) hx hb dX2_bits_16 rfl hl (Nat.le_of_ble_eq_true rfl) rfl (fun ls hl => ?_)
    refine lv_goto (tgt := 4) hx hb dX2_bits_17 (by decide) ?_
    exact hc _ (Option.some.inj hE).symm ls (lv_sub hl [1, 0] rfl)
def fX2_bits (k : Nat) (x0 : Int32) : Option Int32 := (lpo (fX2_bits_B4 k ) k ((0 : Int32), x0)).bind fun x_2 => some x_2
set_option maxHeartbeats 1000000 in
theorem wX2_bits {l : Launch} (k : Nat) (x0 : Int32) (y : Int32) (hE : fX2_bits k x0 = some y) : sM l yX2_bits (ws_ yX2_bits cX2_bits 3 (some .int)) rmX2_bits [.int x0] (some (.int y)) := by
  refine s_met (own := RX2) (by decide) rfl (Nat.le_of_ble_eq_true rfl) (fun p e s m args below meth c hC => ?_)
  intro ls hl
  have hx := hC.1
  have hb := hC.2.1
  have hown := hC.2.2.2.2.2.1
  have hts := hC.2.2.2.2.2.2
  have hl : lv_has ls 3 [(0, .int x0)] := hl
  unfold fX2_bits at hE
  refine lv_iconst (v := 0) hx hb dX2_bits_0 (by decide) ?_
  refine lv_istore_n (lv' := [(1, .int (0 : Int32)), (0, .int x0)]) hx hb dX2_bits_1 rfl hl (Nat.le_of_ble_eq_true rfl) rfl (fun ls hl => ?_)
  refine lv_iload_n hx hb dX2_bits_2 rfl (lv_at hl 1 rfl) ?_
  refine lv_istore_n (lv' := [(2, .int x0), (1, .int (0 : Int32)), (0, .int x0)]) hx hb dX2_bits_3 rfl hl (Nat.le_of_ble_eq_true rfl) rfl (fun ls hl => ?_)
  obtain ⟨x_2, h_2, hE⟩ := ob hE
  refine lpo_walk (fun p_2 : Int32 × Int32 => sW p l e rmX2_bits s m args below meth c 3 (sQ below args s (some (.int y))) 4 [(1, .int p_2.1), (2, .int p_2.2)] []) (fun q_2 : Int32 => sW p l e rmX2_bits s m args below meth c 3 (sQ below args s (some (.int y))) 20 [(1, .int q_2)] []) (fun a_2 y_2 hB_2 hc_2 hx_2 => wX2_bits_B4 k  hC a_2 y_2 hB_2 hc_2 hx_2) _ _ x_2 h_2 ?_ ls (lv_sub hl [1, 0] rfl)
  intro ls hl
  refine lv_iload_n hx hb dX2_bits_20 rfl (lv_at hl 0 rfl) ?_
  obtain rfl := Option.some.inj hE
  exact s_iret hC dX2_bits_21
def fX2_manyIn (k : Nat) (x0 : Int32) (x1 : Int32) (x2 : Int32) : Option Int32 := (fX2_bits k ((x0 >>> (x1 &&& 31)) &&& (((1 : Int32) <<< (x2 &&& 31)) - (1 : Int32)))).bind fun r_1 => some r_1
set_option maxHeartbeats 1000000 in
theorem wX2_manyIn {l : Launch} (k : Nat) (x0 : Int32) (x1 : Int32) (x2 : Int32) (y : Int32) (hE : fX2_manyIn k x0 x1 x2 = some y) : sM l yX2_manyIn (ws_ yX2_manyIn cX2_manyIn 3 (some .int)) rmX2_manyIn [.int x0, .int x1, .int x2] (some (.int y)) := by
  refine s_met (own := RX2) (by decide) rfl (Nat.le_of_ble_eq_true rfl) (fun p e s m args below meth c hC => ?_)
  intro ls hl
  have hx := hC.1
  have hb := hC.2.1
  have hown := hC.2.2.2.2.2.1
  have hts := hC.2.2.2.2.2.2
  have hl : lv_has ls 3 [(0, .int x0), (1, .int x1), (2, .int x2)] := hl
  unfold fX2_manyIn at hE
  refine lv_iload_n hx hb dX2_manyIn_0 rfl (lv_at hl 0 rfl) ?_
  refine lv_iload_n hx hb dX2_manyIn_1 rfl (lv_at hl 1 rfl) ?_
  refine lv_ishr hx hb dX2_manyIn_2 ?_
  refine lv_iconst (v := 1) hx hb dX2_manyIn_3 (by decide) ?_
  refine lv_iload_n hx hb dX2_manyIn_4 rfl (lv_at hl 2 rfl) ?_
  refine lv_ishl hx hb dX2_manyIn_5 ?_
  refine lv_iconst (v := 1) hx hb dX2_manyIn_6 (by decide) ?_
  refine lv_isub hx hb dX2_manyIn_7 ?_
  refine lv_iand hx hb dX2_manyIn_8 ?_
  obtain ⟨r_1, h_1, hE⟩ := ob hE
  refine s_calli [.int ((x0 >>> (x1 &&& 31)) &&& (((1 : Int32) <<< (x2 &&& 31)) - (1 : Int32)))] hC hl.1 (wX2_bits k ((x0 >>> (x1 &&& 31)) &&& (((1 : Int32) <<< (x2 &&& 31)) - (1 : Int32))) r_1 h_1) (va_cwS 1 hts lkX2_406 rfl rfl rfl cdX2_bits ⟨Nat.le_of_ble_eq_true rfl, Nat.le_of_ble_eq_true rfl⟩) rfl rfl (lv_room (Nat.le_of_ble_eq_true rfl)) ⟨Nat.zero_le _, Nat.zero_le _⟩ dX2_manyIn_9 ?_
  obtain rfl := Option.some.inj hE
  exact s_iret hC dX2_manyIn_12
def fX2_canBe_B3 (k : Nat) (v1 : Int32) (v2 : Int32) (w : MS) (a : Int32) : Option (Int32 ⊕ (Unit ⊕ Unit)) := if ((103 : Int32) + ((3 : Int32) * (w.2.2.1 0 (4 : Int32).toNatClampNeg))) ≤ a then (some (.inr (.inl ()))) else (if ib a 3205 then none else (if ib (a + (1 : Int32)) 3205 then none else ((fX2_manyIn k v1 (w.2.2.1 0 a.toNatClampNeg) (w.2.2.1 0 (a + (1 : Int32)).toNatClampNeg)).bind fun r_5 => if ib (a + (2 : Int32)) 3205 then none else ((fX2_isIn (r_5 - (w.2.2.1 0 (a + (2 : Int32)).toNatClampNeg)) (-v2) v2).bind fun r_7 => if r_7 = 0 then (some (.inr (.inr ()))) else (some (.inl (a + (3 : Int32))))))))
set_option maxHeartbeats 1000000 in
theorem wX2_canBe_B3 {p : Program} {l : Launch} {e : Env} {s : State} {m : MethodId} {args : Array Value} {below : List Frame} {meth : Method} {c : Code} {E : ME} {Q : State → Prop} (k : Nat) (v1 : Int32) (v2 : Int32) (w : MS) (hC : mC E cX2_canBe 4 (some .boolean) p s m args meth c) (a : Int32) (y : Int32 ⊕ (Unit ⊕ Unit)) (hE : fX2_canBe_B3 k v1 v2 w a = some y) (hc : ∀ a : Int32, y = .inl a → mW p l e rmX2_canBe s m args below meth c E 4 Q 3 [(0, .ref (E.2.2.2.1 0)), (1, .int v1), (2, .int v2), (3, .int a)] [] w) (hx1 : ∀ b : Unit, y = .inr (.inl b) → mW p l e rmX2_canBe s m args below meth c E 4 Q 62 [] [] w) (hx2 : ∀ b : Unit, y = .inr (.inr b) → mW p l e rmX2_canBe s m args below meth c E 4 Q 54 [] [] w) : mW p l e rmX2_canBe s m args below meth c E 4 Q 3 [(0, .ref (E.2.2.2.1 0)), (1, .int v1), (2, .int v2), (3, .int a)] [] w := by
  intro H locs ls hP hS hl
  have hx := hC.1
  have hb := hC.2.1
  have hown := hC.2.2.2.2.2.1
  have hts := hC.2.2.2.2.2.2.1
  unfold fX2_canBe_B3 at hE
  refine lv_iload_n hx hb dX2_canBe_3 rfl (lv_at hl 3 rfl) ?_
  refine lv_bipush (v := 103) hx hb dX2_canBe_4 (by decide) ?_
  refine lv_iconst (v := 3) hx hb dX2_canBe_6 (by decide) ?_
  refine lv_aload_n hx hb dX2_canBe_7 rfl (lv_at hl 0 rfl) ?_
  refine gM_7 hC hP dX2_canBe_8 ?_
  refine lv_iconst (v := 4) hx hb dX2_canBe_11 (by decide) ?_
  refine aM_0 hC hP (i := (4 : Int32)) (by decide) dX2_canBe_12 ?_
  refine lv_imul hx hb dX2_canBe_13 ?_
  refine lv_iadd hx hb dX2_canBe_14 ?_
  refine lv_icmp_ge (tgt := 62) hx hb dX2_canBe_15 (by decide) (fun c_2 => ?_) (fun c_2 => ?_)
  · have hE := ip c_2 hE
    exact hx1 _ (Option.some.inj hE).symm H locs ls hP hS (lv_sub hl [] rfl)
  · have hE := iq c_2 hE
    refine lv_iload_n hx hb dX2_canBe_18 rfl (lv_at hl 1 rfl) ?_
    refine lv_aload_n hx hb dX2_canBe_19 rfl (lv_at hl 0 rfl) ?_
    refine gM_7 hC hP dX2_canBe_20 ?_
    refine lv_iload_n hx hb dX2_canBe_23 rfl (lv_at hl 3 rfl) ?_
    obtain ⟨c_3, hE⟩ := og hE
    refine aM_0 hC hP c_3 dX2_canBe_24 ?_
    refine lv_aload_n hx hb dX2_canBe_25 rfl (lv_at hl 0 rfl) ?_
    refine gM_7 hC hP dX2_canBe_26 ?_
    refine lv_iload_n hx hb dX2_canBe_29 rfl (lv_at hl 3 rfl) ?_
    refine lv_iconst (v := 1) hx hb dX2_canBe_30 (by decide) ?_
    refine lv_iadd hx hb dX2_canBe_31 ?_
    obtain ⟨c_4, hE⟩ := og hE
    refine aM_0 hC hP c_4 dX2_canBe_32 ?_
    obtain ⟨r_5, h_5, hE⟩ := ob hE
    refine s_calli [.int v1, .int (w.2.2.1 0 a.toNatClampNeg), .int (w.2.2.1 0 (a + (1 : Int32)).toNatClampNeg)] hC.sC hl.1 (wX2_manyIn k v1 (w.2.2.1 0 a.toNatClampNeg) (w.2.2.1 0 (a + (1 : Int32)).toNatClampNeg) r_5 h_5) (va_cwS 3 hts lkX2_409 rfl rfl rfl cdX2_manyIn ⟨Nat.le_of_ble_eq_true rfl, Nat.le_of_ble_eq_true rfl⟩) rfl rfl (lv_room (Nat.le_of_ble_eq_true rfl)) ⟨Nat.zero_le _, Nat.zero_le _⟩ dX2_canBe_33 ?_
    refine lv_aload_n hx hb dX2_canBe_36 rfl (lv_at hl 0 rfl) ?_
    refine gM_7 hC hP dX2_canBe_37 ?_
    refine lv_iload_n hx hb dX2_canBe_40 rfl (lv_at hl 3 rfl) ?_
    refine lv_iconst (v := 2) hx hb dX2_canBe_41 (by decide) ?_
    refine lv_iadd hx hb dX2_canBe_42 ?_
    obtain ⟨c_6, hE⟩ := og hE
    refine aM_0 hC hP c_6 dX2_canBe_43 ?_
    refine lv_isub hx hb dX2_canBe_44 ?_
    refine lv_iload_n hx hb dX2_canBe_45 rfl (lv_at hl 2 rfl) ?_
    refine lv_ineg hx hb dX2_canBe_46 ?_
    refine lv_iload_n hx hb dX2_canBe_47 rfl (lv_at hl 2 rfl) ?_
    obtain ⟨r_7, h_7, hE⟩ := ob hE
    refine s_calli [.int (r_5 - (w.2.2.1 0 (a + (2 : Int32)).toNatClampNeg)), .int (-v2), .int v2] hC.sC hl.1 (wX2_isIn (r_5 - (w.2.2.1 0 (a + (2 : Int32)).toNatClampNeg)) (-v2) v2 r_7 h_7) (va_cwS 3 hts lkX2_69 rfl rfl rfl cdX2_isIn ⟨Nat.le_of_ble_eq_true rfl, Nat.le_of_ble_eq_true rfl⟩) rfl rfl (lv_room (Nat.le_of_ble_eq_true rfl)) ⟨Nat.zero_le _, Nat.zero_le _⟩ dX2_canBe_48 ?_
    refine lv_if_ne (tgt := 56) hx hb dX2_canBe_51 (by decide) (fun c_8 => ?_) (fun c_8 => ?_)
    · have hE := iq c_8 hE
      refine lv_iinc (v := (a + (3 : Int32))) (lv' := [(3, .int (a + (3 : Int32))), (0, .ref (E.2.2.2.1 0)), (1, .int v1), (2, .int v2)]) hx hb dX2_canBe_56 hl (k := 3) rfl rfl (Nat.le_of_ble_eq_true rfl) rfl (fun ls hl => ?_)
      refine lv_goto (tgt := 3) hx hb dX2_canBe_59 (by decide) ?_
      exact hc _ (Option.some.inj hE).symm H locs ls hP hS (lv_sub hl [1, 2, 3, 0] rfl)
    · have hE := ip c_8 hE
      exact hx2 _ (Option.some.inj hE).symm H locs ls hP hS (lv_sub hl [] rfl)
def fX2_canBe (k : Nat) (z : MS) (x1 : Int32) (x2 : Int32) : Option Int32 := (lpo (fX2_canBe_B3 k x1 x2 z) k (103 : Int32)).bind fun x_9 => (Sum.elim (fun t_9 : Unit => some (1 : Int32)) (fun t_9 : Unit => some (0 : Int32))) x_9
set_option maxHeartbeats 1000000 in
theorem wX2_canBe {l : Launch} {E : ME} (k : Nat) (z : MS) (x1 : Int32) (x2 : Int32) (y : Int32) (hE : fX2_canBe k z x1 x2 = some y) : mM l yX2_canBe (ws_ yX2_canBe cX2_canBe 4 (some .boolean)) rmX2_canBe E z [.int x1, .int x2] (some (.int y)) z := by
  refine m_met (by decide) rfl (Nat.le_of_ble_eq_true rfl) (fun p e s m args below meth c hC => ?_)
  intro H locs ls hP hS hl
  have hx := hC.1
  have hb := hC.2.1
  have hown := hC.2.2.2.2.2.1
  have hts := hC.2.2.2.2.2.2.1
  have hl : lv_has ls 4 [(0, .ref (E.2.2.2.1 0)), (1, .int x1), (2, .int x2)] := hl
  unfold fX2_canBe at hE
  refine lv_bipush (v := 103) hx hb dX2_canBe_0 (by decide) ?_
  refine lv_istore_n (lv' := [(3, .int (103 : Int32)), (0, .ref (E.2.2.2.1 0)), (1, .int x1), (2, .int x2)]) hx hb dX2_canBe_2 rfl hl (Nat.le_of_ble_eq_true rfl) rfl (fun ls hl => ?_)
  obtain ⟨x_9, h_9, hE⟩ := ob hE
  refine lpo_walk (fun p_9 : Int32 => mW p l e rmX2_canBe s m args below meth c E 4 (mQ E below args s (some (.int y)) z) 3 [(0, .ref (E.2.2.2.1 0)), (1, .int x1), (2, .int x2), (3, .int p_9)] [] z) (fun q_9 : (Unit ⊕ Unit) => (∀ t_9 : Unit, q_9 = (.inl t_9) → mW p l e rmX2_canBe s m args below meth c E 4 (mQ E below args s (some (.int y)) z) 62 [] [] z) ∧ (∀ t_9 : Unit, q_9 = (.inr t_9) → mW p l e rmX2_canBe s m args below meth c E 4 (mQ E below args s (some (.int y)) z) 54 [] [] z)) (fun a_9 y_9 hB_9 hc_9 hx_9 => wX2_canBe_B3 k x1 x2 z hC a_9 y_9 hB_9 hc_9 (fun t_9 e_9 => (hx_9 _ e_9).1 t_9 rfl) (fun t_9 e_9 => (hx_9 _ e_9).2 t_9 rfl)) _ _ x_9 h_9 ?_ H locs ls hP hS (lv_sub hl [1, 2, 3, 0] rfl)
  refine ⟨?_, ?_⟩
  · intro t_9 e_9
    subst e_9
    have hE := oel hE
    intro H locs ls hP hS hl
    refine lv_iconst (v := 1) hx hb dX2_canBe_62 (by decide) ?_
    obtain rfl := Option.some.inj hE
    exact m_zret (v := (1 : Int32)) hC hP hS (by decide) dX2_canBe_63
  · intro t_9 e_9
    subst e_9
    have hE := oer hE
    intro H locs ls hP hS hl
    refine lv_iconst (v := 0) hx hb dX2_canBe_54 (by decide) ?_
    obtain rfl := Option.some.inj hE
    exact m_zret (v := (0 : Int32)) hC hP hS (by decide) dX2_canBe_55
def fX2_could_B34 (k : Nat) (v1 : Int32) (v2 : Int32) (w : MS) (a : Int32 × Int32 × Int32 × Int32) : Option ((Int32 × Int32 × Int32 × Int32) ⊕ (Int32 × Int32 × Int32)) := if (4096 : Int32) ≤ a.2.2.2 then (some (.inr (a.1, a.2.1, a.2.2.1))) else ((fX2_canBe k w a.2.2.2 v1).bind fun r_6 => if r_6 = 0 then (some (.inl (a.1, a.2.1, a.2.2.1, (a.2.2.2 + (1 : Int32))))) else (some (.inl ((a.1 + (1 : Int32)), (a.2.1 &&& a.2.2.2), (a.2.2.1 &&& (a.2.2.2 ^^^ (-1 : Int32))), (a.2.2.2 + (1 : Int32))))))
set_option maxHeartbeats 1000000 in
theorem wX2_could_B34 {p : Program} {l : Launch} {e : Env} {s : State} {m : MethodId} {args : Array Value} {below : List Frame} {meth : Method} {c : Code} {E : ME} {Q : State → Prop} (k : Nat) (v1 : Int32) (v2 : Int32) (w : MS) (hC : mC E cX2_could 7 (some .int) p s m args meth c) (a : Int32 × Int32 × Int32 × Int32) (y : (Int32 × Int32 × Int32 × Int32) ⊕ (Int32 × Int32 × Int32)) (hE : fX2_could_B34 k v1 v2 w a = some y) (hc : ∀ a : Int32 × Int32 × Int32 × Int32, y = .inl a → mW p l e rmX2_could s m args below meth c E 7 Q 34 [(0, .ref (E.2.2.2.1 0)), (1, .int v1), (2, .int v2), (3, .int a.1), (4, .int a.2.1), (5, .int a.2.2.1), (6, .int a.2.2.2)] [] w) (hx1 : ∀ b : Int32 × Int32 × Int32, y = .inr b → mW p l e rmX2_could s m args below meth c E 7 Q 80 [(2, .int v2), (3, .int b.1), (4, .int b.2.1), (5, .int b.2.2)] [] w) : mW p l e rmX2_could s m args below meth c E 7 Q 34 [(0, .ref (E.2.2.2.1 0)), (1, .int v1), (2, .int v2), (3, .int a.1), (4, .int a.2.1), (5, .int a.2.2.1), (6, .int a.2.2.2)] [] w := by
  intro H locs ls hP hS hl
  have hx := hC.1
  have hb := hC.2.1
  have hown := hC.2.2.2.2.2.1
  have hts := hC.2.2.2.2.2.2.1
  unfold fX2_could_B34 at hE
  refine lv_iload hx hb dX2_could_34 (lv_at hl 6 rfl) ?_
  refine lv_sipush (v := 4096) hx hb dX2_could_36 (by decide) ?_
  refine lv_icmp_ge (tgt := 80) hx hb dX2_could_39 (by decide) (fun c_5 => ?_) (fun c_5 => ?_)
  · have hE := ip c_5 hE
    exact hx1 _ (Option.some.inj hE).symm H locs ls hP hS (lv_sub hl [2, 3, 4, 5] rfl)
  · have hE := iq c_5 hE
    refine lv_aload_n hx hb dX2_could_42 rfl (lv_at hl 0 rfl) ?_
    refine lv_iload hx hb dX2_could_43 (lv_at hl 6 rfl) ?_
    refine lv_iload_n hx hb dX2_could_45 rfl (lv_at hl 1 rfl) ?_
    obtain ⟨r_6, h_6, hE⟩ := ob hE
    refine m_calli [.int a.2.2.2, .int v1] hC hP hS hl.1 (wX2_canBe k w a.2.2.2 v1 r_6 h_6) (cwV 2 hts lkX2_412 rfl rfl rfl cdX2_canBe ⟨Nat.le_of_ble_eq_true rfl, Nat.le_of_ble_eq_true rfl⟩) rfl rfl (lv_room (Nat.le_of_ble_eq_true rfl)) dX2_could_46 (fun H locs hP hS => ?_)
    refine lv_if_ne (tgt := 55) hx hb dX2_could_49 (by decide) (fun c_7 => ?_) (fun c_7 => ?_)
    · have hE := iq c_7 hE
      refine lv_iinc (v := (a.1 + (1 : Int32))) (lv' := [(3, .int (a.1 + (1 : Int32))), (0, .ref (E.2.2.2.1 0)), (1, .int v1), (2, .int v2), (4, .int a.2.1), (5, .int a.2.2.1), (6, .int a.2.2.2)]) hx hb dX2_could_55 hl (k := 3) rfl rfl (Nat.le_of_ble_eq_true rfl) rfl (fun ls hl => ?_)
      refine lv_iload hx hb dX2_could_58 (lv_at hl 4 rfl) ?_
      refine lv_iload hx hb dX2_could_60 (lv_at hl 6 rfl) ?_
      refine lv_iand hx hb dX2_could_62 ?_
      refine lv_istore (lv' := [(4, .int (a.2.1 &&& a.2.2.2)), (3, .int (a.1 + (1 : Int32))), (0, .ref (E.2.2.2.1 0)), (1, .int v1), (2, .int v2), (5, .int a.2.2.1), (6, .int a.2.2.2)]) hx hb dX2_could_63 hl (Nat.le_of_ble_eq_true rfl) rfl (fun ls hl => ?_)
      refine lv_iload hx hb dX2_could_65 (lv_at hl 5 rfl) ?_
      refine lv_iload hx hb dX2_could_67 (lv_at hl 6 rfl) ?_
      refine lv_iconst (v := -1) hx hb dX2_could_69 (by decide) ?_
      refine lv_ixor hx hb dX2_could_70 ?_
      refine lv_iand hx hb dX2_could_71 ?_
      refine lv_istore (lv' := [(5, .int (a.2.2.1 &&& (a.2.2.2 ^^^ (-1 : Int32)))), (4, .int (a.2.1 &&& a.2.2.2)), (3, .int (a.1 + (1 : Int32))), (0, .ref (E.2.2.2.1 0)), (1, .int v1), (2, .int v2), (6, .int a.2.2.2)]) hx hb dX2_could_72 hl (Nat.le_of_ble_eq_true rfl) rfl (fun ls hl => ?_)
      refine lv_iinc (v := (a.2.2.2 + (1 : Int32))) (lv' := [(6, .int (a.2.2.2 + (1 : Int32))), (5, .int (a.2.2.1 &&& (a.2.2.2 ^^^ (-1 : Int32)))), (4, .int (a.2.1 &&& a.2.2.2)), (3, .int (a.1 + (1 : Int32))), (0, .ref (E.2.2.2.1 0)), (1, .int v1), (2, .int v2)]) hx hb dX2_could_74 hl (k := 6) rfl rfl (Nat.le_of_ble_eq_true rfl) rfl (fun ls hl => ?_)
      refine lv_goto (tgt := 34) hx hb dX2_could_77 (by decide) ?_
      exact hc _ (Option.some.inj hE).symm H locs ls hP hS (lv_sub hl [4, 5, 6, 3, 2, 1, 0] rfl)
    · have hE := ip c_7 hE
      refine lv_goto (tgt := 74) hx hb dX2_could_52 (by decide) ?_
      refine lv_iinc (v := (a.2.2.2 + (1 : Int32))) (lv' := [(6, .int (a.2.2.2 + (1 : Int32))), (0, .ref (E.2.2.2.1 0)), (1, .int v1), (2, .int v2), (3, .int a.1), (4, .int a.2.1), (5, .int a.2.2.1)]) hx hb dX2_could_74 hl (k := 6) rfl rfl (Nat.le_of_ble_eq_true rfl) rfl (fun ls hl => ?_)
      refine lv_goto (tgt := 34) hx hb dX2_could_77 (by decide) ?_
      exact hc _ (Option.some.inj hE).symm H locs ls hP hS (lv_sub hl [1, 2, 3, 4, 5, 6, 0] rfl)
def fX2_could (k : Nat) (z : MS) (x1 : Int32) (x2 : Int32) : Option Int32 := (fX2_isIn x1 (0 : Int32) (2 : Int32)).bind fun r_1 => if r_1 = 0 then (some (-1 : Int32)) else ((fX2_isIn x2 (0 : Int32) (2 : Int32)).bind fun r_3 => if r_3 = 0 then (some (-1 : Int32)) else ((lpo (fX2_could_B34 k x1 x2 z) k ((0 : Int32), (4095 : Int32), (4095 : Int32), (0 : Int32))).bind fun x_8 => if x2 = 0 then (some x_8.1) else (if x_8.1 = 0 then (some (-1 : Int32)) else (if x2 = (1 : Int32) then (some x_8.2.1) else (some x_8.2.2)))))
set_option maxHeartbeats 1000000 in
theorem wX2_could {l : Launch} {E : ME} (k : Nat) (z : MS) (x1 : Int32) (x2 : Int32) (y : Int32) (hE : fX2_could k z x1 x2 = some y) : mM l yX2_could (ws_ yX2_could cX2_could 7 (some .int)) rmX2_could E z [.int x1, .int x2] (some (.int y)) z := by
  refine m_met (by decide) rfl (Nat.le_of_ble_eq_true rfl) (fun p e s m args below meth c hC => ?_)
  intro H locs ls hP hS hl
  have hx := hC.1
  have hb := hC.2.1
  have hown := hC.2.2.2.2.2.1
  have hts := hC.2.2.2.2.2.2.1
  have hl : lv_has ls 7 [(0, .ref (E.2.2.2.1 0)), (1, .int x1), (2, .int x2)] := hl
  unfold fX2_could at hE
  refine lv_iload_n hx hb dX2_could_0 rfl (lv_at hl 1 rfl) ?_
  refine lv_iconst (v := 0) hx hb dX2_could_1 (by decide) ?_
  refine lv_iconst (v := 2) hx hb dX2_could_2 (by decide) ?_
  obtain ⟨r_1, h_1, hE⟩ := ob hE
  refine s_calli [.int x1, .int (0 : Int32), .int (2 : Int32)] hC.sC hl.1 (wX2_isIn x1 (0 : Int32) (2 : Int32) r_1 h_1) (va_cwS 3 hts lkX2_69 rfl rfl rfl cdX2_isIn ⟨Nat.le_of_ble_eq_true rfl, Nat.le_of_ble_eq_true rfl⟩) rfl rfl (lv_room (Nat.le_of_ble_eq_true rfl)) ⟨Nat.zero_le _, Nat.zero_le _⟩ dX2_could_3 ?_
  refine lv_if_eq (tgt := 18) hx hb dX2_could_6 (by decide) (fun c_2 => ?_) (fun c_2 => ?_)
  · have hE := ip c_2 hE
    refine lv_iconst (v := -1) hx hb dX2_could_18 (by decide) ?_
    obtain rfl := Option.some.inj hE
    exact m_iret hC hP hS dX2_could_19
  · have hE := iq c_2 hE
    refine lv_iload_n hx hb dX2_could_9 rfl (lv_at hl 2 rfl) ?_
    refine lv_iconst (v := 0) hx hb dX2_could_10 (by decide) ?_
    refine lv_iconst (v := 2) hx hb dX2_could_11 (by decide) ?_
    obtain ⟨r_3, h_3, hE⟩ := ob hE
    refine s_calli [.int x2, .int (0 : Int32), .int (2 : Int32)] hC.sC hl.1 (wX2_isIn x2 (0 : Int32) (2 : Int32) r_3 h_3) (va_cwS 3 hts lkX2_69 rfl rfl rfl cdX2_isIn ⟨Nat.le_of_ble_eq_true rfl, Nat.le_of_ble_eq_true rfl⟩) rfl rfl (lv_room (Nat.le_of_ble_eq_true rfl)) ⟨Nat.zero_le _, Nat.zero_le _⟩ dX2_could_12 ?_
    refine lv_if_ne (tgt := 20) hx hb dX2_could_15 (by decide) (fun c_4 => ?_) (fun c_4 => ?_)
    · have hE := iq c_4 hE
      refine lv_iconst (v := 0) hx hb dX2_could_20 (by decide) ?_
      refine lv_istore_n (lv' := [(3, .int (0 : Int32)), (0, .ref (E.2.2.2.1 0)), (1, .int x1), (2, .int x2)]) hx hb dX2_could_21 rfl hl (Nat.le_of_ble_eq_true rfl) rfl (fun ls hl => ?_)
      refine lv_sipush (v := 4095) hx hb dX2_could_22 (by decide) ?_
      refine lv_istore (lv' := [(4, .int (4095 : Int32)), (3, .int (0 : Int32)), (0, .ref (E.2.2.2.1 0)), (1, .int x1), (2, .int x2)]) hx hb dX2_could_25 hl (Nat.le_of_ble_eq_true rfl) rfl (fun ls hl => ?_)
      refine lv_iload hx hb dX2_could_27 (lv_at hl 0 rfl) ?_
      refine lv_istore (lv' := [(5, .int (4095 : Int32)), (4, .int (4095 : Int32)), (3, .int (0 : Int32)), (0, .ref (E.2.2.2.1 0)), (1, .int x1), (2, .int x2)]) hx hb dX2_could_29 hl (Nat.le_of_ble_eq_true rfl) rfl (fun ls hl => ?_)
      refine lv_iconst (v := 0) hx hb dX2_could_31 (by decide) ?_
      refine lv_istore (lv' := [(6, .int (0 : Int32)), (5, .int (4095 : Int32)), (4, .int (4095 : Int32)), (3, .int (0 : Int32)), (0, .ref (E.2.2.2.1 0)), (1, .int x1), (2, .int x2)]) hx hb dX2_could_32 hl (Nat.le_of_ble_eq_true rfl) rfl (fun ls hl => ?_)
      obtain ⟨x_8, h_8, hE⟩ := ob hE
      refine lpo_walk (fun p_8 : Int32 × Int32 × Int32 × Int32 => mW p l e rmX2_could s m args below meth c E 7 (mQ E below args s (some (.int y)) z) 34 [(0, .ref (E.2.2.2.1 0)), (1, .int x1), (2, .int x2), (3, .int p_8.1), (4, .int p_8.2.1), (5, .int p_8.2.2.1), (6, .int p_8.2.2.2)] [] z) (fun q_8 : Int32 × Int32 × Int32 => mW p l e rmX2_could s m args below meth c E 7 (mQ E below args s (some (.int y)) z) 80 [(2, .int x2), (3, .int q_8.1), (4, .int q_8.2.1), (5, .int q_8.2.2)] [] z) (fun a_8 y_8 hB_8 hc_8 hx_8 => wX2_could_B34 k x1 x2 z hC a_8 y_8 hB_8 hc_8 hx_8) _ _ x_8 h_8 ?_ H locs ls hP hS (lv_sub hl [4, 5, 6, 3, 2, 1, 0] rfl)
      intro H locs ls hP hS hl
      refine lv_iload_n hx hb dX2_could_80 rfl (lv_at hl 0 rfl) ?_
      refine lv_if_ne (tgt := 88) hx hb dX2_could_81 (by decide) (fun c_9 => ?_) (fun c_9 => ?_)
      · have hE := iq c_9 hE
        refine lv_iload_n hx hb dX2_could_88 rfl (lv_at hl 1 rfl) ?_
        refine lv_if_ne (tgt := 96) hx hb dX2_could_89 (by decide) (fun c_10 => ?_) (fun c_10 => ?_)
        · have hE := iq c_10 hE
          refine lv_iload_n hx hb dX2_could_96 rfl (lv_at hl 0 rfl) ?_
          refine lv_iconst (v := 1) hx hb dX2_could_97 (by decide) ?_
          refine lv_icmp_ne (tgt := 106) hx hb dX2_could_98 (by decide) (fun c_11 => ?_) (fun c_11 => ?_)
          · have hE := iq c_11 hE
            refine lv_iload hx hb dX2_could_106 (lv_at hl 3 rfl) ?_
            obtain rfl := Option.some.inj hE
            exact m_iret hC hP hS dX2_could_108
          · have hE := ip c_11 hE
            refine lv_iload hx hb dX2_could_101 (lv_at hl 2 rfl) ?_
            refine lv_goto (tgt := 108) hx hb dX2_could_103 (by decide) ?_
            obtain rfl := Option.some.inj hE
            exact m_iret hC hP hS dX2_could_108
        · have hE := ip c_10 hE
          refine lv_iconst (v := -1) hx hb dX2_could_92 (by decide) ?_
          refine lv_goto (tgt := 108) hx hb dX2_could_93 (by decide) ?_
          obtain rfl := Option.some.inj hE
          exact m_iret hC hP hS dX2_could_108
      · have hE := ip c_9 hE
        refine lv_iload_n hx hb dX2_could_84 rfl (lv_at hl 1 rfl) ?_
        refine lv_goto (tgt := 108) hx hb dX2_could_85 (by decide) ?_
        obtain rfl := Option.some.inj hE
        exact m_iret hC hP hS dX2_could_108
    · have hE := ip c_4 hE
      refine lv_iconst (v := -1) hx hb dX2_could_18 (by decide) ?_
      obtain rfl := Option.some.inj hE
      exact m_iret hC hP hS dX2_could_19
def fX2_mostLeft_B2 (k : Nat) (v1 : Int32) (v2 : Int32) (a : Int32 × MS) : Option ((Int32 × MS) ⊕ MS) := if (13 : Int32) ≤ a.1 then (some (.inr a.2)) else (if ib a.1 13 then none else (nm (mA a.2 30 (upd (a.2.2.2.1 30) a.1.toNatClampNeg (0 : Int32))) fun z_2 => some (.inl ((a.1 + (1 : Int32)), z_2))))
set_option maxHeartbeats 1000000 in
theorem wX2_mostLeft_B2 {p : Program} {l : Launch} {e : Env} {s : State} {m : MethodId} {args : Array Value} {below : List Frame} {meth : Method} {c : Code} {E : ME} {Q : State → Prop} (k : Nat) (v1 : Int32) (v2 : Int32) (hC : mC E cX2_mostLeft 5 (some .int) p s m args meth c) (a : Int32 × MS) (y : (Int32 × MS) ⊕ MS) (hE : fX2_mostLeft_B2 k v1 v2 a = some y) (hc : ∀ a : Int32 × MS, y = .inl a → mW p l e rmX2_mostLeft s m args below meth c E 5 Q 2 [(0, .ref (E.2.2.2.1 0)), (1, .int v1), (2, .int v2), (3, .int a.1)] [] a.2) (hx1 : ∀ b : MS, y = .inr b → mW p l e rmX2_mostLeft s m args below meth c E 5 Q 21 [(0, .ref (E.2.2.2.1 0)), (1, .int v1), (2, .int v2)] [] b) : mW p l e rmX2_mostLeft s m args below meth c E 5 Q 2 [(0, .ref (E.2.2.2.1 0)), (1, .int v1), (2, .int v2), (3, .int a.1)] [] a.2 := by
  intro H locs ls hP hS hl
  have hx := hC.1
  have hb := hC.2.1
  have hown := hC.2.2.2.2.2.1
  have hts := hC.2.2.2.2.2.2.1
  unfold fX2_mostLeft_B2 at hE
  refine lv_iload_n hx hb dX2_mostLeft_2 rfl (lv_at hl 3 rfl) ?_
  refine lv_bipush (v := 13) hx hb dX2_mostLeft_3 (by decide) ?_
  refine lv_icmp_ge (tgt := 21) hx hb dX2_mostLeft_5 (by decide) (fun c_1 => ?_) (fun c_1 => ?_)
  · have hE := ip c_1 hE
    exact hx1 _ (Option.some.inj hE).symm H locs ls hP hS (lv_sub hl [0, 1, 2] rfl)
  · have hE := iq c_1 hE
    refine lv_aload_n hx hb dX2_mostLeft_8 rfl (lv_at hl 0 rfl) ?_
    refine gM_59 hC hP dX2_mostLeft_9 ?_
    refine lv_iload_n hx hb dX2_mostLeft_12 rfl (lv_at hl 3 rfl) ?_
    refine lv_iconst (v := 0) hx hb dX2_mostLeft_13 (by decide) ?_
    obtain ⟨c_2, hE⟩ := og hE
    obtain ⟨z_2, ez_2, hE⟩ := on hE
    refine tM_30 hC hP hS c_2 ez_2 dX2_mostLeft_14 (fun H locs hP hS => ?_)
    refine lv_iinc (v := (a.1 + (1 : Int32))) (lv' := [(3, .int (a.1 + (1 : Int32))), (0, .ref (E.2.2.2.1 0)), (1, .int v1), (2, .int v2)]) hx hb dX2_mostLeft_15 hl (k := 3) rfl rfl (Nat.le_of_ble_eq_true rfl) rfl (fun ls hl => ?_)
    refine lv_goto (tgt := 2) hx hb dX2_mostLeft_18 (by decide) ?_
    exact hc _ (Option.some.inj hE).symm H locs ls hP hS (lv_sub hl [1, 2, 3, 0] rfl)
def fX2_mostLeft_B23 (k : Nat) (v1 : Int32) (v2 : Int32) (a : Int32 × MS) : Option ((Int32 × MS) ⊕ MS) := if (4096 : Int32) ≤ a.1 then (some (.inr a.2)) else (if ib a.1 4096 then none else (if (a.2.2.2.1 29 a.1.toNatClampNeg) = 0 then (some (.inl ((a.1 + (1 : Int32)), a.2))) else ((fX2_manyIn k a.1 v1 v2).bind fun r_7 => if ib r_7 13 then none else (if ib r_7 13 then none else (nm (mA a.2 30 (upd (a.2.2.2.1 30) r_7.toNatClampNeg ((a.2.2.2.1 30 r_7.toNatClampNeg) + (1 : Int32)))) fun z_9 => some (.inl ((a.1 + (1 : Int32)), z_9)))))))
set_option maxHeartbeats 1000000 in
theorem wX2_mostLeft_B23 {p : Program} {l : Launch} {e : Env} {s : State} {m : MethodId} {args : Array Value} {below : List Frame} {meth : Method} {c : Code} {E : ME} {Q : State → Prop} (k : Nat) (v1 : Int32) (v2 : Int32) (hC : mC E cX2_mostLeft 5 (some .int) p s m args meth c) (a : Int32 × MS) (y : (Int32 × MS) ⊕ MS) (hE : fX2_mostLeft_B23 k v1 v2 a = some y) (hc : ∀ a : Int32 × MS, y = .inl a → mW p l e rmX2_mostLeft s m args below meth c E 5 Q 23 [(0, .ref (E.2.2.2.1 0)), (1, .int v1), (2, .int v2), (3, .int a.1)] [] a.2) (hx1 : ∀ b : MS, y = .inr b → mW p l e rmX2_mostLeft s m args below meth c E 5 Q 60 [(0, .ref (E.2.2.2.1 0))] [] b) : mW p l e rmX2_mostLeft s m args below meth c E 5 Q 23 [(0, .ref (E.2.2.2.1 0)), (1, .int v1), (2, .int v2), (3, .int a.1)] [] a.2 := by
  intro H locs ls hP hS hl
  have hx := hC.1
  have hb := hC.2.1
  have hown := hC.2.2.2.2.2.1
  have hts := hC.2.2.2.2.2.2.1
  unfold fX2_mostLeft_B23 at hE
  refine lv_iload_n hx hb dX2_mostLeft_23 rfl (lv_at hl 3 rfl) ?_
  refine lv_sipush (v := 4096) hx hb dX2_mostLeft_24 (by decide) ?_
  refine lv_icmp_ge (tgt := 60) hx hb dX2_mostLeft_27 (by decide) (fun c_4 => ?_) (fun c_4 => ?_)
  · have hE := ip c_4 hE
    exact hx1 _ (Option.some.inj hE).symm H locs ls hP hS (lv_sub hl [0] rfl)
  · have hE := iq c_4 hE
    refine lv_aload_n hx hb dX2_mostLeft_30 rfl (lv_at hl 0 rfl) ?_
    refine gM_56 hC hP dX2_mostLeft_31 ?_
    refine lv_iload_n hx hb dX2_mostLeft_34 rfl (lv_at hl 3 rfl) ?_
    obtain ⟨c_5, hE⟩ := og hE
    refine aM_29 hC hP c_5 dX2_mostLeft_35 ?_
    refine lv_if_eq (tgt := 54) hx hb dX2_mostLeft_36 (by decide) (fun c_6 => ?_) (fun c_6 => ?_)
    · have hE := ip c_6 hE
      refine lv_iinc (v := (a.1 + (1 : Int32))) (lv' := [(3, .int (a.1 + (1 : Int32))), (0, .ref (E.2.2.2.1 0)), (1, .int v1), (2, .int v2)]) hx hb dX2_mostLeft_54 hl (k := 3) rfl rfl (Nat.le_of_ble_eq_true rfl) rfl (fun ls hl => ?_)
      refine lv_goto (tgt := 23) hx hb dX2_mostLeft_57 (by decide) ?_
      exact hc _ (Option.some.inj hE).symm H locs ls hP hS (lv_sub hl [1, 2, 3, 0] rfl)
    · have hE := iq c_6 hE
      refine lv_aload_n hx hb dX2_mostLeft_39 rfl (lv_at hl 0 rfl) ?_
      refine gM_59 hC hP dX2_mostLeft_40 ?_
      refine lv_iload_n hx hb dX2_mostLeft_43 rfl (lv_at hl 3 rfl) ?_
      refine lv_iload_n hx hb dX2_mostLeft_44 rfl (lv_at hl 1 rfl) ?_
      refine lv_iload_n hx hb dX2_mostLeft_45 rfl (lv_at hl 2 rfl) ?_
      obtain ⟨r_7, h_7, hE⟩ := ob hE
      refine s_calli [.int a.1, .int v1, .int v2] hC.sC hl.1 (wX2_manyIn k a.1 v1 v2 r_7 h_7) (va_cwS 3 hts lkX2_409 rfl rfl rfl cdX2_manyIn ⟨Nat.le_of_ble_eq_true rfl, Nat.le_of_ble_eq_true rfl⟩) rfl rfl (lv_room (Nat.le_of_ble_eq_true rfl)) ⟨Nat.zero_le _, Nat.zero_le _⟩ dX2_mostLeft_46 ?_
      refine lv_dup2_11 hx hb dX2_mostLeft_49 rfl rfl ?_
      obtain ⟨c_8, hE⟩ := og hE
      refine aM_30 hC hP c_8 dX2_mostLeft_50 ?_
      refine lv_iconst (v := 1) hx hb dX2_mostLeft_51 (by decide) ?_
      refine lv_iadd hx hb dX2_mostLeft_52 ?_
      obtain ⟨c_9, hE⟩ := og hE
      obtain ⟨z_9, ez_9, hE⟩ := on hE
      refine tM_30 hC hP hS c_9 ez_9 dX2_mostLeft_53 (fun H locs hP hS => ?_)
      refine lv_iinc (v := (a.1 + (1 : Int32))) (lv' := [(3, .int (a.1 + (1 : Int32))), (0, .ref (E.2.2.2.1 0)), (1, .int v1), (2, .int v2)]) hx hb dX2_mostLeft_54 hl (k := 3) rfl rfl (Nat.le_of_ble_eq_true rfl) rfl (fun ls hl => ?_)
      refine lv_goto (tgt := 23) hx hb dX2_mostLeft_57 (by decide) ?_
      exact hc _ (Option.some.inj hE).symm H locs ls hP hS (lv_sub hl [1, 2, 3, 0] rfl)
def fX2_mostLeft_B65 (k : Nat)  (w : MS) (a : Int32 × Int32) : Option ((Int32 × Int32) ⊕ Int32) := if (13 : Int32) ≤ a.2 then (some (.inr a.1)) else (if ib a.2 13 then none else (if (w.2.2.1 30 a.2.toNatClampNeg) ≤ a.1 then (some (.inl (a.1, (a.2 + (1 : Int32))))) else (if ib a.2 13 then none else (some (.inl ((w.2.2.1 30 a.2.toNatClampNeg), (a.2 + (1 : Int32))))))))
set_option maxHeartbeats 1000000 in
theorem wX2_mostLeft_B65 {p : Program} {l : Launch} {e : Env} {s : State} {m : MethodId} {args : Array Value} {below : List Frame} {meth : Method} {c : Code} {E : ME} {Q : State → Prop} (k : Nat)  (w : MS) (hC : mC E cX2_mostLeft 5 (some .int) p s m args meth c) (a : Int32 × Int32) (y : (Int32 × Int32) ⊕ Int32) (hE : fX2_mostLeft_B65 k  w a = some y) (hc : ∀ a : Int32 × Int32, y = .inl a → mW p l e rmX2_mostLeft s m args below meth c E 5 Q 65 [(0, .ref (E.2.2.2.1 0)), (3, .int a.1), (4, .int a.2)] [] w) (hx1 : ∀ b : Int32, y = .inr b → mW p l e rmX2_mostLeft s m args below meth c E 5 Q 101 [(3, .int b)] [] w) : mW p l e rmX2_mostLeft s m args below meth c E 5 Q 65 [(0, .ref (E.2.2.2.1 0)), (3, .int a.1), (4, .int a.2)] [] w := by
  intro H locs ls hP hS hl
  have hx := hC.1
  have hb := hC.2.1
  have hown := hC.2.2.2.2.2.1
  have hts := hC.2.2.2.2.2.2.1
  unfold fX2_mostLeft_B65 at hE
  refine lv_iload hx hb dX2_mostLeft_65 (lv_at hl 2 rfl) ?_
  refine lv_bipush (v := 13) hx hb dX2_mostLeft_67 (by decide) ?_
  refine lv_icmp_ge (tgt := 101) hx hb dX2_mostLeft_69 (by decide) (fun c_11 => ?_) (fun c_11 => ?_)
  · have hE := ip c_11 hE
    exact hx1 _ (Option.some.inj hE).symm H locs ls hP hS (lv_sub hl [1] rfl)
  · have hE := iq c_11 hE
    refine lv_aload_n hx hb dX2_mostLeft_72 rfl (lv_at hl 0 rfl) ?_
    refine gM_59 hC hP dX2_mostLeft_73 ?_
    refine lv_iload hx hb dX2_mostLeft_76 (lv_at hl 2 rfl) ?_
    obtain ⟨c_12, hE⟩ := og hE
    refine aM_30 hC hP c_12 dX2_mostLeft_78 ?_
    refine lv_iload_n hx hb dX2_mostLeft_79 rfl (lv_at hl 1 rfl) ?_
    refine lv_icmp_le (tgt := 93) hx hb dX2_mostLeft_80 (by decide) (fun c_13 => ?_) (fun c_13 => ?_)
    · have hE := ip c_13 hE
      refine lv_iload_n hx hb dX2_mostLeft_93 rfl (lv_at hl 1 rfl) ?_
      refine lv_istore_n (lv' := [(3, .int a.1), (0, .ref (E.2.2.2.1 0)), (4, .int a.2)]) hx hb dX2_mostLeft_94 rfl hl (Nat.le_of_ble_eq_true rfl) rfl (fun ls hl => ?_)
      refine lv_iinc (v := (a.2 + (1 : Int32))) (lv' := [(4, .int (a.2 + (1 : Int32))), (3, .int a.1), (0, .ref (E.2.2.2.1 0))]) hx hb dX2_mostLeft_95 hl (k := 2) rfl rfl (Nat.le_of_ble_eq_true rfl) rfl (fun ls hl => ?_)
      refine lv_goto (tgt := 65) hx hb dX2_mostLeft_98 (by decide) ?_
      exact hc _ (Option.some.inj hE).symm H locs ls hP hS (lv_sub hl [2, 1, 0] rfl)
    · have hE := iq c_13 hE
      refine lv_aload_n hx hb dX2_mostLeft_83 rfl (lv_at hl 0 rfl) ?_
      refine gM_59 hC hP dX2_mostLeft_84 ?_
      refine lv_iload hx hb dX2_mostLeft_87 (lv_at hl 2 rfl) ?_
      obtain ⟨c_14, hE⟩ := og hE
      refine aM_30 hC hP c_14 dX2_mostLeft_89 ?_
      refine lv_goto (tgt := 94) hx hb dX2_mostLeft_90 (by decide) ?_
      refine lv_istore_n (lv' := [(3, .int (w.2.2.1 30 a.2.toNatClampNeg)), (0, .ref (E.2.2.2.1 0)), (4, .int a.2)]) hx hb dX2_mostLeft_94 rfl hl (Nat.le_of_ble_eq_true rfl) rfl (fun ls hl => ?_)
      refine lv_iinc (v := (a.2 + (1 : Int32))) (lv' := [(4, .int (a.2 + (1 : Int32))), (3, .int (w.2.2.1 30 a.2.toNatClampNeg)), (0, .ref (E.2.2.2.1 0))]) hx hb dX2_mostLeft_95 hl (k := 2) rfl rfl (Nat.le_of_ble_eq_true rfl) rfl (fun ls hl => ?_)
      refine lv_goto (tgt := 65) hx hb dX2_mostLeft_98 (by decide) ?_
      exact hc _ (Option.some.inj hE).symm H locs ls hP hS (lv_sub hl [2, 1, 0] rfl)
def fX2_mostLeft (k : Nat) (z : MS) (x1 : Int32) (x2 : Int32) : Option (Int32 × MS) := (lpo (fX2_mostLeft_B2 k x1 x2) k ((0 : Int32), z)).bind fun x_3 => (lpo (fX2_mostLeft_B23 k x1 x2) k ((0 : Int32), x_3)).bind fun x_10 => (lpo (fX2_mostLeft_B65 k  x_10) k ((0 : Int32), (0 : Int32))).bind fun x_15 => some (x_15, x_10)
set_option maxHeartbeats 1000000 in
theorem wX2_mostLeft {l : Launch} {E : ME} (k : Nat) (z : MS) (x1 : Int32) (x2 : Int32) (y : Int32 × MS) (hE : fX2_mostLeft k z x1 x2 = some y) : mM l yX2_mostLeft (ws_ yX2_mostLeft cX2_mostLeft 5 (some .int)) rmX2_mostLeft E z [.int x1, .int x2] (some (.int y.1)) y.2 := by
  refine m_met (by decide) rfl (Nat.le_of_ble_eq_true rfl) (fun p e s m args below meth c hC => ?_)
  intro H locs ls hP hS hl
  have hx := hC.1
  have hb := hC.2.1
  have hown := hC.2.2.2.2.2.1
  have hts := hC.2.2.2.2.2.2.1
  have hl : lv_has ls 5 [(0, .ref (E.2.2.2.1 0)), (1, .int x1), (2, .int x2)] := hl
  unfold fX2_mostLeft at hE
  refine lv_iconst (v := 0) hx hb dX2_mostLeft_0 (by decide) ?_
  refine lv_istore_n (lv' := [(3, .int (0 : Int32)), (0, .ref (E.2.2.2.1 0)), (1, .int x1), (2, .int x2)]) hx hb dX2_mostLeft_1 rfl hl (Nat.le_of_ble_eq_true rfl) rfl (fun ls hl => ?_)
  obtain ⟨x_3, h_3, hE⟩ := ob hE
  refine lpo_walk (fun p_3 : Int32 × MS => mW p l e rmX2_mostLeft s m args below meth c E 5 (mQ E below args s (some (.int y.1)) y.2) 2 [(0, .ref (E.2.2.2.1 0)), (1, .int x1), (2, .int x2), (3, .int p_3.1)] [] p_3.2) (fun q_3 : MS => mW p l e rmX2_mostLeft s m args below meth c E 5 (mQ E below args s (some (.int y.1)) y.2) 21 [(0, .ref (E.2.2.2.1 0)), (1, .int x1), (2, .int x2)] [] q_3) (fun a_3 y_3 hB_3 hc_3 hx_3 => wX2_mostLeft_B2 k x1 x2 hC a_3 y_3 hB_3 hc_3 hx_3) _ _ x_3 h_3 ?_ H locs ls hP hS (lv_sub hl [1, 2, 3, 0] rfl)
  intro H locs ls hP hS hl
  refine lv_iconst (v := 0) hx hb dX2_mostLeft_21 (by decide) ?_
  refine lv_istore_n (lv' := [(3, .int (0 : Int32)), (0, .ref (E.2.2.2.1 0)), (1, .int x1), (2, .int x2)]) hx hb dX2_mostLeft_22 rfl hl (Nat.le_of_ble_eq_true rfl) rfl (fun ls hl => ?_)
  obtain ⟨x_10, h_10, hE⟩ := ob hE
  refine lpo_walk (fun p_10 : Int32 × MS => mW p l e rmX2_mostLeft s m args below meth c E 5 (mQ E below args s (some (.int y.1)) y.2) 23 [(0, .ref (E.2.2.2.1 0)), (1, .int x1), (2, .int x2), (3, .int p_10.1)] [] p_10.2) (fun q_10 : MS => mW p l e rmX2_mostLeft s m args below meth c E 5 (mQ E below args s (some (.int y.1)) y.2) 60 [(0, .ref (E.2.2.2.1 0))] [] q_10) (fun a_10 y_10 hB_10 hc_10 hx_10 => wX2_mostLeft_B23 k x1 x2 hC a_10 y_10 hB_10 hc_10 hx_10) _ _ x_10 h_10 ?_ H locs ls hP hS (lv_sub hl [1, 2, 3, 0] rfl)
  intro H locs ls hP hS hl
  refine lv_iconst (v := 0) hx hb dX2_mostLeft_60 (by decide) ?_
  refine lv_istore_n (lv' := [(3, .int (0 : Int32)), (0, .ref (E.2.2.2.1 0))]) hx hb dX2_mostLeft_61 rfl hl (Nat.le_of_ble_eq_true rfl) rfl (fun ls hl => ?_)
  refine lv_iconst (v := 0) hx hb dX2_mostLeft_62 (by decide) ?_
  refine lv_istore (lv' := [(4, .int (0 : Int32)), (3, .int (0 : Int32)), (0, .ref (E.2.2.2.1 0))]) hx hb dX2_mostLeft_63 hl (Nat.le_of_ble_eq_true rfl) rfl (fun ls hl => ?_)
  obtain ⟨x_15, h_15, hE⟩ := ob hE
  refine lpo_walk (fun p_15 : Int32 × Int32 => mW p l e rmX2_mostLeft s m args below meth c E 5 (mQ E below args s (some (.int y.1)) y.2) 65 [(0, .ref (E.2.2.2.1 0)), (3, .int p_15.1), (4, .int p_15.2)] [] x_10) (fun q_15 : Int32 => mW p l e rmX2_mostLeft s m args below meth c E 5 (mQ E below args s (some (.int y.1)) y.2) 101 [(3, .int q_15)] [] x_10) (fun a_15 y_15 hB_15 hc_15 hx_15 => wX2_mostLeft_B65 k  x_10 hC a_15 y_15 hB_15 hc_15 hx_15) _ _ x_15 h_15 ?_ H locs ls hP hS (lv_sub hl [2, 1, 0] rfl)
  intro H locs ls hP hS hl
  refine lv_iload_n hx hb dX2_mostLeft_101 rfl (lv_at hl 0 rfl) ?_
  obtain rfl := Option.some.inj hE
  exact m_iret hC hP hS dX2_mostLeft_102
def fX2_ask_B15 (k : Nat) (v1 : Int32) (a : Int32 × Int32 × MS) : Option ((Int32 × Int32 × MS) ⊕ (Int32 × MS)) := if (4096 : Int32) ≤ a.2.1 then (some (.inr (a.1, a.2.2))) else ((fX2_canBe k a.2.2 a.2.1 v1).bind fun r_4 => if ib a.2.1 4096 then none else (nm (mA a.2.2 29 (upd (a.2.2.2.2.1 29) a.2.1.toNatClampNeg (r_4 &&& 1))) fun z_5 => if ib a.2.1 4096 then none else (if (z_5.2.2.1 29 a.2.1.toNatClampNeg) = 0 then (some (.inl ((a.1 + (0 : Int32)), (a.2.1 + (1 : Int32)), z_5))) else (some (.inl ((a.1 + (1 : Int32)), (a.2.1 + (1 : Int32)), z_5))))))
set_option maxHeartbeats 1000000 in
theorem wX2_ask_B15 {p : Program} {l : Launch} {e : Env} {s : State} {m : MethodId} {args : Array Value} {below : List Frame} {meth : Method} {c : Code} {E : ME} {Q : State → Prop} (k : Nat) (v1 : Int32) (hC : mC E cX2_ask 8 (some .int) p s m args meth c) (a : Int32 × Int32 × MS) (y : (Int32 × Int32 × MS) ⊕ (Int32 × MS)) (hE : fX2_ask_B15 k v1 a = some y) (hc : ∀ a : Int32 × Int32 × MS, y = .inl a → mW p l e rmX2_ask s m args below meth c E 8 Q 15 [(0, .ref (E.2.2.2.1 0)), (1, .int v1), (2, .int a.1), (3, .int a.2.1)] [] a.2.2) (hx1 : ∀ b : Int32 × MS, y = .inr b → mW p l e rmX2_ask s m args below meth c E 8 Q 57 [(0, .ref (E.2.2.2.1 0)), (2, .int b.1)] [] b.2) : mW p l e rmX2_ask s m args below meth c E 8 Q 15 [(0, .ref (E.2.2.2.1 0)), (1, .int v1), (2, .int a.1), (3, .int a.2.1)] [] a.2.2 := by
  intro H locs ls hP hS hl
  have hx := hC.1
  have hb := hC.2.1
  have hown := hC.2.2.2.2.2.1
  have hts := hC.2.2.2.2.2.2.1
  unfold fX2_ask_B15 at hE
  refine lv_iload_n hx hb dX2_ask_15 rfl (lv_at hl 3 rfl) ?_
  refine lv_sipush (v := 4096) hx hb dX2_ask_16 (by decide) ?_
  refine lv_icmp_ge (tgt := 57) hx hb dX2_ask_19 (by decide) (fun c_3 => ?_) (fun c_3 => ?_)
  · have hE := ip c_3 hE
    exact hx1 _ (Option.some.inj hE).symm H locs ls hP hS (lv_sub hl [0, 2] rfl)
  · have hE := iq c_3 hE
    refine lv_aload_n hx hb dX2_ask_22 rfl (lv_at hl 0 rfl) ?_
    refine gM_56 hC hP dX2_ask_23 ?_
    refine lv_iload_n hx hb dX2_ask_26 rfl (lv_at hl 3 rfl) ?_
    refine lv_aload_n hx hb dX2_ask_27 rfl (lv_at hl 0 rfl) ?_
    refine lv_iload_n hx hb dX2_ask_28 rfl (lv_at hl 3 rfl) ?_
    refine lv_iload_n hx hb dX2_ask_29 rfl (lv_at hl 1 rfl) ?_
    obtain ⟨r_4, h_4, hE⟩ := ob hE
    refine m_calli [.int a.2.1, .int v1] hC hP hS hl.1 (wX2_canBe k a.2.2 a.2.1 v1 r_4 h_4) (cwV 2 hts lkX2_412 rfl rfl rfl cdX2_canBe ⟨Nat.le_of_ble_eq_true rfl, Nat.le_of_ble_eq_true rfl⟩) rfl rfl (lv_room (Nat.le_of_ble_eq_true rfl)) dX2_ask_30 (fun H locs hP hS => ?_)
    obtain ⟨c_5, hE⟩ := og hE
    obtain ⟨z_5, ez_5, hE⟩ := on hE
    refine tM_29 hC hP hS c_5 ez_5 dX2_ask_33 (fun H locs hP hS => ?_)
    refine lv_iload_n hx hb dX2_ask_34 rfl (lv_at hl 2 rfl) ?_
    refine lv_aload_n hx hb dX2_ask_35 rfl (lv_at hl 0 rfl) ?_
    refine gM_56 hC hP dX2_ask_36 ?_
    refine lv_iload_n hx hb dX2_ask_39 rfl (lv_at hl 3 rfl) ?_
    obtain ⟨c_6, hE⟩ := og hE
    refine aM_29 hC hP c_6 dX2_ask_40 ?_
    refine lv_if_eq (tgt := 48) hx hb dX2_ask_41 (by decide) (fun c_7 => ?_) (fun c_7 => ?_)
    · have hE := ip c_7 hE
      refine lv_iconst (v := 0) hx hb dX2_ask_48 (by decide) ?_
      refine lv_iadd hx hb dX2_ask_49 ?_
      refine lv_istore_n (lv' := [(2, .int (a.1 + (0 : Int32))), (0, .ref (E.2.2.2.1 0)), (1, .int v1), (3, .int a.2.1)]) hx hb dX2_ask_50 rfl hl (Nat.le_of_ble_eq_true rfl) rfl (fun ls hl => ?_)
      refine lv_iinc (v := (a.2.1 + (1 : Int32))) (lv' := [(3, .int (a.2.1 + (1 : Int32))), (2, .int (a.1 + (0 : Int32))), (0, .ref (E.2.2.2.1 0)), (1, .int v1)]) hx hb dX2_ask_51 hl (k := 3) rfl rfl (Nat.le_of_ble_eq_true rfl) rfl (fun ls hl => ?_)
      refine lv_goto (tgt := 15) hx hb dX2_ask_54 (by decide) ?_
      exact hc _ (Option.some.inj hE).symm H locs ls hP hS (lv_sub hl [2, 3, 1, 0] rfl)
    · have hE := iq c_7 hE
      refine lv_iconst (v := 1) hx hb dX2_ask_44 (by decide) ?_
      refine lv_goto (tgt := 49) hx hb dX2_ask_45 (by decide) ?_
      refine lv_iadd hx hb dX2_ask_49 ?_
      refine lv_istore_n (lv' := [(2, .int (a.1 + (1 : Int32))), (0, .ref (E.2.2.2.1 0)), (1, .int v1), (3, .int a.2.1)]) hx hb dX2_ask_50 rfl hl (Nat.le_of_ble_eq_true rfl) rfl (fun ls hl => ?_)
      refine lv_iinc (v := (a.2.1 + (1 : Int32))) (lv' := [(3, .int (a.2.1 + (1 : Int32))), (2, .int (a.1 + (1 : Int32))), (0, .ref (E.2.2.2.1 0)), (1, .int v1)]) hx hb dX2_ask_51 hl (k := 3) rfl rfl (Nat.le_of_ble_eq_true rfl) rfl (fun ls hl => ?_)
      refine lv_goto (tgt := 15) hx hb dX2_ask_54 (by decide) ?_
      exact hc _ (Option.some.inj hE).symm H locs ls hP hS (lv_sub hl [2, 3, 1, 0] rfl)
def fX2_ask_B82 (k : Nat) (v2 : Int32) (v5 : Int32) (a : Int32 × Int32 × Int32 × MS) : Option ((Int32 × Int32 × Int32 × MS) ⊕ (Int32 × Int32 × MS)) := if ((12 : Int32) - v5) < a.2.2.1 then (some (.inr (a.1, a.2.1, a.2.2.2))) else ((fX2_mostLeft k a.2.2.2 v5 a.2.2.1).bind fun r_12 => if r_12.1 < a.2.1 then (some (.inl ((((100 : Int32) * v5) + a.2.2.1), r_12.1, (a.2.2.1 + (1 : Int32)), r_12.2))) else (some (.inl (a.1, a.2.1, (a.2.2.1 + (1 : Int32)), r_12.2))))
set_option maxHeartbeats 1000000 in
theorem wX2_ask_B82 {p : Program} {l : Launch} {e : Env} {s : State} {m : MethodId} {args : Array Value} {below : List Frame} {meth : Method} {c : Code} {E : ME} {Q : State → Prop} (k : Nat) (v2 : Int32) (v5 : Int32) (hC : mC E cX2_ask 8 (some .int) p s m args meth c) (a : Int32 × Int32 × Int32 × MS) (y : (Int32 × Int32 × Int32 × MS) ⊕ (Int32 × Int32 × MS)) (hE : fX2_ask_B82 k v2 v5 a = some y) (hc : ∀ a : Int32 × Int32 × Int32 × MS, y = .inl a → mW p l e rmX2_ask s m args below meth c E 8 Q 82 [(0, .ref (E.2.2.2.1 0)), (2, .int v2), (3, .int a.1), (4, .int a.2.1), (5, .int v5), (6, .int a.2.2.1)] [] a.2.2.2) (hx1 : ∀ b : Int32 × Int32 × MS, y = .inr b → mW p l e rmX2_ask s m args below meth c E 8 Q 131 [(0, .ref (E.2.2.2.1 0)), (2, .int v2), (3, .int b.1), (4, .int b.2.1), (5, .int v5)] [] b.2.2) : mW p l e rmX2_ask s m args below meth c E 8 Q 82 [(0, .ref (E.2.2.2.1 0)), (2, .int v2), (3, .int a.1), (4, .int a.2.1), (5, .int v5), (6, .int a.2.2.1)] [] a.2.2.2 := by
  intro H locs ls hP hS hl
  have hx := hC.1
  have hb := hC.2.1
  have hown := hC.2.2.2.2.2.1
  have hts := hC.2.2.2.2.2.2.1
  unfold fX2_ask_B82 at hE
  refine lv_iload hx hb dX2_ask_82 (lv_at hl 5 rfl) ?_
  refine lv_bipush (v := 12) hx hb dX2_ask_84 (by decide) ?_
  refine lv_iload hx hb dX2_ask_86 (lv_at hl 4 rfl) ?_
  refine lv_isub hx hb dX2_ask_88 ?_
  refine lv_icmp_gt (tgt := 131) hx hb dX2_ask_89 (by decide) (fun c_11 => ?_) (fun c_11 => ?_)
  · have hE := ip c_11 hE
    exact hx1 _ (Option.some.inj hE).symm H locs ls hP hS (lv_sub hl [0, 1, 2, 3, 4] rfl)
  · have hE := iq c_11 hE
    refine lv_aload_n hx hb dX2_ask_92 rfl (lv_at hl 0 rfl) ?_
    refine lv_iload hx hb dX2_ask_93 (lv_at hl 4 rfl) ?_
    refine lv_iload hx hb dX2_ask_95 (lv_at hl 5 rfl) ?_
    obtain ⟨r_12, h_12, hE⟩ := ob hE
    refine m_calli [.int v5, .int a.2.2.1] hC hP hS hl.1 (wX2_mostLeft k a.2.2.2 v5 a.2.2.1 r_12 h_12) (cwV 2 hts lkX2_416 rfl rfl rfl cdX2_mostLeft ⟨Nat.le_of_ble_eq_true rfl, Nat.le_of_ble_eq_true rfl⟩) rfl rfl (lv_room (Nat.le_of_ble_eq_true rfl)) dX2_ask_97 (fun H locs hP hS => ?_)
    refine lv_istore (lv' := [(7, .int r_12.1), (0, .ref (E.2.2.2.1 0)), (2, .int v2), (3, .int a.1), (4, .int a.2.1), (5, .int v5), (6, .int a.2.2.1)]) hx hb dX2_ask_100 hl (Nat.le_of_ble_eq_true rfl) rfl (fun ls hl => ?_)
    refine lv_iload hx hb dX2_ask_102 (lv_at hl 0 rfl) ?_
    refine lv_iload hx hb dX2_ask_104 (lv_at hl 4 rfl) ?_
    refine lv_icmp_lt (tgt := 112) hx hb dX2_ask_106 (by decide) (fun c_13 => ?_) (fun c_13 => ?_)
    · have hE := ip c_13 hE
      refine lv_iload hx hb dX2_ask_112 (lv_at hl 0 rfl) ?_
      refine lv_istore (lv' := [(4, .int r_12.1), (7, .int r_12.1), (0, .ref (E.2.2.2.1 0)), (2, .int v2), (3, .int a.1), (5, .int v5), (6, .int a.2.2.1)]) hx hb dX2_ask_114 hl (Nat.le_of_ble_eq_true rfl) rfl (fun ls hl => ?_)
      refine lv_bipush (v := 100) hx hb dX2_ask_116 (by decide) ?_
      refine lv_iload hx hb dX2_ask_118 (lv_at hl 5 rfl) ?_
      refine lv_imul hx hb dX2_ask_120 ?_
      refine lv_iload hx hb dX2_ask_121 (lv_at hl 6 rfl) ?_
      refine lv_iadd hx hb dX2_ask_123 ?_
      refine lv_istore_n (lv' := [(3, .int (((100 : Int32) * v5) + a.2.2.1)), (4, .int r_12.1), (7, .int r_12.1), (0, .ref (E.2.2.2.1 0)), (2, .int v2), (5, .int v5), (6, .int a.2.2.1)]) hx hb dX2_ask_124 rfl hl (Nat.le_of_ble_eq_true rfl) rfl (fun ls hl => ?_)
      refine lv_iinc (v := (a.2.2.1 + (1 : Int32))) (lv' := [(6, .int (a.2.2.1 + (1 : Int32))), (3, .int (((100 : Int32) * v5) + a.2.2.1)), (4, .int r_12.1), (7, .int r_12.1), (0, .ref (E.2.2.2.1 0)), (2, .int v2), (5, .int v5)]) hx hb dX2_ask_125 hl (k := 6) rfl rfl (Nat.le_of_ble_eq_true rfl) rfl (fun ls hl => ?_)
      refine lv_goto (tgt := 82) hx hb dX2_ask_128 (by decide) ?_
      exact hc _ (Option.some.inj hE).symm H locs ls hP hS (lv_sub hl [4, 5, 1, 2, 6, 0] rfl)
    · have hE := iq c_13 hE
      refine lv_goto (tgt := 125) hx hb dX2_ask_109 (by decide) ?_
      refine lv_iinc (v := (a.2.2.1 + (1 : Int32))) (lv' := [(6, .int (a.2.2.1 + (1 : Int32))), (7, .int r_12.1), (0, .ref (E.2.2.2.1 0)), (2, .int v2), (3, .int a.1), (4, .int a.2.1), (5, .int v5)]) hx hb dX2_ask_125 hl (k := 6) rfl rfl (Nat.le_of_ble_eq_true rfl) rfl (fun ls hl => ?_)
      refine lv_goto (tgt := 82) hx hb dX2_ask_128 (by decide) ?_
      exact hc _ (Option.some.inj hE).symm H locs ls hP hS (lv_sub hl [2, 3, 4, 5, 6, 0] rfl)
def fX2_ask_B67 (k : Nat) (v2 : Int32) (a : Int32 × Int32 × Int32 × MS) : Option ((Int32 × Int32 × Int32 × MS) ⊕ (Int32 × MS)) := if (12 : Int32) ≤ a.2.2.1 then (some (.inr (a.1, a.2.2.2))) else (if v2 ≤ (1 : Int32) then (some (.inr (a.1, a.2.2.2))) else ((lpo (fX2_ask_B82 k v2 a.2.2.1) k (a.1, a.2.1, (1 : Int32), a.2.2.2)).bind fun x_14 => some (.inl (x_14.1, x_14.2.1, (a.2.2.1 + (1 : Int32)), x_14.2.2))))
set_option maxHeartbeats 1000000 in
theorem wX2_ask_B67 {p : Program} {l : Launch} {e : Env} {s : State} {m : MethodId} {args : Array Value} {below : List Frame} {meth : Method} {c : Code} {E : ME} {Q : State → Prop} (k : Nat) (v2 : Int32) (hC : mC E cX2_ask 8 (some .int) p s m args meth c) (a : Int32 × Int32 × Int32 × MS) (y : (Int32 × Int32 × Int32 × MS) ⊕ (Int32 × MS)) (hE : fX2_ask_B67 k v2 a = some y) (hc : ∀ a : Int32 × Int32 × Int32 × MS, y = .inl a → mW p l e rmX2_ask s m args below meth c E 8 Q 67 [(0, .ref (E.2.2.2.1 0)), (2, .int v2), (3, .int a.1), (4, .int a.2.1), (5, .int a.2.2.1)] [] a.2.2.2) (hx1 : ∀ b : Int32 × MS, y = .inr b → mW p l e rmX2_ask s m args below meth c E 8 Q 137 [(3, .int b.1)] [] b.2) : mW p l e rmX2_ask s m args below meth c E 8 Q 67 [(0, .ref (E.2.2.2.1 0)), (2, .int v2), (3, .int a.1), (4, .int a.2.1), (5, .int a.2.2.1)] [] a.2.2.2 := by
  intro H locs ls hP hS hl
  have hx := hC.1
  have hb := hC.2.1
  have hown := hC.2.2.2.2.2.1
  have hts := hC.2.2.2.2.2.2.1
  unfold fX2_ask_B67 at hE
  refine lv_iload hx hb dX2_ask_67 (lv_at hl 4 rfl) ?_
  refine lv_bipush (v := 12) hx hb dX2_ask_69 (by decide) ?_
  refine lv_icmp_ge (tgt := 137) hx hb dX2_ask_71 (by decide) (fun c_9 => ?_) (fun c_9 => ?_)
  · have hE := ip c_9 hE
    exact hx1 _ (Option.some.inj hE).symm H locs ls hP hS (lv_sub hl [2] rfl)
  · have hE := iq c_9 hE
    refine lv_iload_n hx hb dX2_ask_74 rfl (lv_at hl 1 rfl) ?_
    refine lv_iconst (v := 1) hx hb dX2_ask_75 (by decide) ?_
    refine lv_icmp_le (tgt := 137) hx hb dX2_ask_76 (by decide) (fun c_10 => ?_) (fun c_10 => ?_)
    · have hE := ip c_10 hE
      exact hx1 _ (Option.some.inj hE).symm H locs ls hP hS (lv_sub hl [2] rfl)
    · have hE := iq c_10 hE
      refine lv_iconst (v := 1) hx hb dX2_ask_79 (by decide) ?_
      refine lv_istore (lv' := [(6, .int (1 : Int32)), (0, .ref (E.2.2.2.1 0)), (2, .int v2), (3, .int a.1), (4, .int a.2.1), (5, .int a.2.2.1)]) hx hb dX2_ask_80 hl (Nat.le_of_ble_eq_true rfl) rfl (fun ls hl => ?_)
      obtain ⟨x_14, h_14, hE⟩ := ob hE
      refine lpo_walk (fun p_14 : Int32 × Int32 × Int32 × MS => mW p l e rmX2_ask s m args below meth c E 8 Q 82 [(0, .ref (E.2.2.2.1 0)), (2, .int v2), (3, .int p_14.1), (4, .int p_14.2.1), (5, .int a.2.2.1), (6, .int p_14.2.2.1)] [] p_14.2.2.2) (fun q_14 : Int32 × Int32 × MS => mW p l e rmX2_ask s m args below meth c E 8 Q 131 [(0, .ref (E.2.2.2.1 0)), (2, .int v2), (3, .int q_14.1), (4, .int q_14.2.1), (5, .int a.2.2.1)] [] q_14.2.2) (fun a_14 y_14 hB_14 hc_14 hx_14 => wX2_ask_B82 k v2 a.2.2.1 hC a_14 y_14 hB_14 hc_14 hx_14) _ _ x_14 h_14 ?_ H locs ls hP hS (lv_sub hl [1, 2, 3, 4, 5, 0] rfl)
      intro H locs ls hP hS hl
      refine lv_iinc (v := (a.2.2.1 + (1 : Int32))) (lv' := [(5, .int (a.2.2.1 + (1 : Int32))), (0, .ref (E.2.2.2.1 0)), (2, .int v2), (3, .int x_14.1), (4, .int x_14.2.1)]) hx hb dX2_ask_131 hl (k := 4) rfl rfl (Nat.le_of_ble_eq_true rfl) rfl (fun ls hl => ?_)
      refine lv_goto (tgt := 67) hx hb dX2_ask_134 (by decide) ?_
      exact hc _ (Option.some.inj hE).symm H locs ls hP hS (lv_sub hl [1, 2, 3, 4, 0] rfl)
def fX2_ask (k : Nat) (z : MS) (x1 : Int32) : Option (Int32 × MS) := (fX2_isIn x1 (0 : Int32) (2 : Int32)).bind fun r_1 => if r_1 = 0 then (some ((-1 : Int32), z)) else ((lpo (fX2_ask_B15 k x1) k ((0 : Int32), (0 : Int32), z)).bind fun x_8 => (lpo (fX2_ask_B67 k x_8.1) k ((-1 : Int32), (1000000 : Int32), (0 : Int32), x_8.2)).bind fun x_15 => some (x_15.1, x_15.2))
set_option maxHeartbeats 1000000 in
theorem wX2_ask {l : Launch} {E : ME} (k : Nat) (z : MS) (x1 : Int32) (y : Int32 × MS) (hE : fX2_ask k z x1 = some y) : mM l yX2_ask (ws_ yX2_ask cX2_ask 8 (some .int)) rmX2_ask E z [.int x1] (some (.int y.1)) y.2 := by
  refine m_met (by decide) rfl (Nat.le_of_ble_eq_true rfl) (fun p e s m args below meth c hC => ?_)
  intro H locs ls hP hS hl
  have hx := hC.1
  have hb := hC.2.1
  have hown := hC.2.2.2.2.2.1
  have hts := hC.2.2.2.2.2.2.1
  have hl : lv_has ls 8 [(0, .ref (E.2.2.2.1 0)), (1, .int x1)] := hl
  unfold fX2_ask at hE
  refine lv_iload_n hx hb dX2_ask_0 rfl (lv_at hl 1 rfl) ?_
  refine lv_iconst (v := 0) hx hb dX2_ask_1 (by decide) ?_
  refine lv_iconst (v := 2) hx hb dX2_ask_2 (by decide) ?_
  obtain ⟨r_1, h_1, hE⟩ := ob hE
  refine s_calli [.int x1, .int (0 : Int32), .int (2 : Int32)] hC.sC hl.1 (wX2_isIn x1 (0 : Int32) (2 : Int32) r_1 h_1) (va_cwS 3 hts lkX2_69 rfl rfl rfl cdX2_isIn ⟨Nat.le_of_ble_eq_true rfl, Nat.le_of_ble_eq_true rfl⟩) rfl rfl (lv_room (Nat.le_of_ble_eq_true rfl)) ⟨Nat.zero_le _, Nat.zero_le _⟩ dX2_ask_3 ?_
  refine lv_if_ne (tgt := 11) hx hb dX2_ask_6 (by decide) (fun c_2 => ?_) (fun c_2 => ?_)
  · have hE := iq c_2 hE
    refine lv_iconst (v := 0) hx hb dX2_ask_11 (by decide) ?_
    refine lv_istore_n (lv' := [(2, .int (0 : Int32)), (0, .ref (E.2.2.2.1 0)), (1, .int x1)]) hx hb dX2_ask_12 rfl hl (Nat.le_of_ble_eq_true rfl) rfl (fun ls hl => ?_)
    refine lv_iconst (v := 0) hx hb dX2_ask_13 (by decide) ?_
    refine lv_istore_n (lv' := [(3, .int (0 : Int32)), (2, .int (0 : Int32)), (0, .ref (E.2.2.2.1 0)), (1, .int x1)]) hx hb dX2_ask_14 rfl hl (Nat.le_of_ble_eq_true rfl) rfl (fun ls hl => ?_)
    obtain ⟨x_8, h_8, hE⟩ := ob hE
    refine lpo_walk (fun p_8 : Int32 × Int32 × MS => mW p l e rmX2_ask s m args below meth c E 8 (mQ E below args s (some (.int y.1)) y.2) 15 [(0, .ref (E.2.2.2.1 0)), (1, .int x1), (2, .int p_8.1), (3, .int p_8.2.1)] [] p_8.2.2) (fun q_8 : Int32 × MS => mW p l e rmX2_ask s m args below meth c E 8 (mQ E below args s (some (.int y.1)) y.2) 57 [(0, .ref (E.2.2.2.1 0)), (2, .int q_8.1)] [] q_8.2) (fun a_8 y_8 hB_8 hc_8 hx_8 => wX2_ask_B15 k x1 hC a_8 y_8 hB_8 hc_8 hx_8) _ _ x_8 h_8 ?_ H locs ls hP hS (lv_sub hl [2, 3, 1, 0] rfl)
    intro H locs ls hP hS hl
    refine lv_iconst (v := -1) hx hb dX2_ask_57 (by decide) ?_
    refine lv_istore_n (lv' := [(3, .int (-1 : Int32)), (0, .ref (E.2.2.2.1 0)), (2, .int x_8.1)]) hx hb dX2_ask_58 rfl hl (Nat.le_of_ble_eq_true rfl) rfl (fun ls hl => ?_)
    refine lv_ldcw (v := 1000000) hx hb hown (hts _ q1932) dX2_ask_59 ?_
    refine lv_istore (lv' := [(4, .int (1000000 : Int32)), (3, .int (-1 : Int32)), (0, .ref (E.2.2.2.1 0)), (2, .int x_8.1)]) hx hb dX2_ask_62 hl (Nat.le_of_ble_eq_true rfl) rfl (fun ls hl => ?_)
    refine lv_iconst (v := 0) hx hb dX2_ask_64 (by decide) ?_
    refine lv_istore (lv' := [(5, .int (0 : Int32)), (4, .int (1000000 : Int32)), (3, .int (-1 : Int32)), (0, .ref (E.2.2.2.1 0)), (2, .int x_8.1)]) hx hb dX2_ask_65 hl (Nat.le_of_ble_eq_true rfl) rfl (fun ls hl => ?_)
    obtain ⟨x_15, h_15, hE⟩ := ob hE
    refine lpo_walk (fun p_15 : Int32 × Int32 × Int32 × MS => mW p l e rmX2_ask s m args below meth c E 8 (mQ E below args s (some (.int y.1)) y.2) 67 [(0, .ref (E.2.2.2.1 0)), (2, .int x_8.1), (3, .int p_15.1), (4, .int p_15.2.1), (5, .int p_15.2.2.1)] [] p_15.2.2.2) (fun q_15 : Int32 × MS => mW p l e rmX2_ask s m args below meth c E 8 (mQ E below args s (some (.int y.1)) y.2) 137 [(3, .int q_15.1)] [] q_15.2) (fun a_15 y_15 hB_15 hc_15 hx_15 => wX2_ask_B67 k x_8.1 hC a_15 y_15 hB_15 hc_15 hx_15) _ _ x_15 h_15 ?_ H locs ls hP hS (lv_sub hl [3, 4, 2, 1, 0] rfl)
    intro H locs ls hP hS hl
    refine lv_iload_n hx hb dX2_ask_137 rfl (lv_at hl 0 rfl) ?_
    obtain rfl := Option.some.inj hE
    exact m_iret hC hP hS dX2_ask_138
  · have hE := ip c_2 hE
    refine lv_iconst (v := -1) hx hb dX2_ask_9 (by decide) ?_
    obtain rfl := Option.some.inj hE
    exact m_iret hC hP hS dX2_ask_10
def fX2_costBy (z : MS) (x1 : Int32) (x2 : Int32) (x3 : Int32) : Option Int32 := if ib (((30 : Int32) * x1) + x3) 900 then none else (if ib (((30 : Int32) * (x3 + (1 : Int32))) + x2) 900 then none else (nm (z.2.2.1 31 (((30 : Int32) * (x3 + (1 : Int32))) + x2).toNatClampNeg) fun v_3 => if ib ((39 : Int32) + x3) 3205 then none else (if (z.2.2.1 31 (((30 : Int32) * x1) + x3).toNatClampNeg) ≤ v_3 then (some (((z.2.2.1 0 ((39 : Int32) + x3).toNatClampNeg) + (1 : Int32)) + v_3)) else (some (((z.2.2.1 0 ((39 : Int32) + x3).toNatClampNeg) + (1 : Int32)) + (z.2.2.1 31 (((30 : Int32) * x1) + x3).toNatClampNeg))))))
set_option maxHeartbeats 1000000 in
theorem wX2_costBy {l : Launch} {E : ME} (z : MS) (x1 : Int32) (x2 : Int32) (x3 : Int32) (y : Int32) (hE : fX2_costBy z x1 x2 x3 = some y) : mM l yX2_costBy (ws_ yX2_costBy cX2_costBy 6 (some .int)) rmX2_costBy E z [.int x1, .int x2, .int x3] (some (.int y)) z := by
  refine m_met (by decide) rfl (Nat.le_of_ble_eq_true rfl) (fun p e s m args below meth c hC => ?_)
  intro H locs ls hP hS hl
  have hx := hC.1
  have hb := hC.2.1
  have hown := hC.2.2.2.2.2.1
  have hts := hC.2.2.2.2.2.2.1
  have hl : lv_has ls 6 [(0, .ref (E.2.2.2.1 0)), (1, .int x1), (2, .int x2), (3, .int x3)] := hl
  unfold fX2_costBy at hE
  refine lv_aload_n hx hb dX2_costBy_0 rfl (lv_at hl 0 rfl) ?_
  refine gM_62 hC hP dX2_costBy_1 ?_
  refine lv_bipush (v := 30) hx hb dX2_costBy_4 (by decide) ?_
  refine lv_iload_n hx hb dX2_costBy_6 rfl (lv_at hl 1 rfl) ?_
  refine lv_imul hx hb dX2_costBy_7 ?_
  refine lv_iload_n hx hb dX2_costBy_8 rfl (lv_at hl 3 rfl) ?_
  refine lv_iadd hx hb dX2_costBy_9 ?_
  obtain ⟨c_1, hE⟩ := og hE
  refine aM_31 hC hP c_1 dX2_costBy_10 ?_
  refine lv_istore (lv' := [(4, .int (z.2.2.1 31 (((30 : Int32) * x1) + x3).toNatClampNeg)), (0, .ref (E.2.2.2.1 0)), (1, .int x1), (2, .int x2), (3, .int x3)]) hx hb dX2_costBy_11 hl (Nat.le_of_ble_eq_true rfl) rfl (fun ls hl => ?_)
  refine lv_aload_n hx hb dX2_costBy_13 rfl (lv_at hl 1 rfl) ?_
  refine gM_62 hC hP dX2_costBy_14 ?_
  refine lv_bipush (v := 30) hx hb dX2_costBy_17 (by decide) ?_
  refine lv_iload_n hx hb dX2_costBy_19 rfl (lv_at hl 4 rfl) ?_
  refine lv_iconst (v := 1) hx hb dX2_costBy_20 (by decide) ?_
  refine lv_iadd hx hb dX2_costBy_21 ?_
  refine lv_imul hx hb dX2_costBy_22 ?_
  refine lv_iload_n hx hb dX2_costBy_23 rfl (lv_at hl 3 rfl) ?_
  refine lv_iadd hx hb dX2_costBy_24 ?_
  obtain ⟨c_2, hE⟩ := og hE
  refine aM_31 hC hP c_2 dX2_costBy_25 ?_
  refine nm_i hE (fun v_3 ev_3 hE => ?_)
  refine lv_istore (lv' := [(5, .int v_3), (4, .int (z.2.2.1 31 (((30 : Int32) * x1) + x3).toNatClampNeg)), (0, .ref (E.2.2.2.1 0)), (1, .int x1), (2, .int x2), (3, .int x3)]) hx hb dX2_costBy_26 hl (Nat.le_of_ble_eq_true rfl) rfl (fun ls hl => ?_)
  refine lv_aload_n hx hb dX2_costBy_28 rfl (lv_at hl 2 rfl) ?_
  refine gM_7 hC hP dX2_costBy_29 ?_
  refine lv_bipush (v := 39) hx hb dX2_costBy_32 (by decide) ?_
  refine lv_iload_n hx hb dX2_costBy_34 rfl (lv_at hl 5 rfl) ?_
  refine lv_iadd hx hb dX2_costBy_35 ?_
  obtain ⟨c_4, hE⟩ := og hE
  refine aM_0 hC hP c_4 dX2_costBy_36 ?_
  refine lv_iconst (v := 1) hx hb dX2_costBy_37 (by decide) ?_
  refine lv_iadd hx hb dX2_costBy_38 ?_
  refine lv_iload hx hb dX2_costBy_39 (lv_at hl 1 rfl) ?_
  refine lv_iload hx hb dX2_costBy_41 (lv_at hl 0 rfl) ?_
  refine lv_icmp_le (tgt := 51) hx hb dX2_costBy_43 (by decide) (fun c_5 => ?_) (fun c_5 => ?_)
  · have hE := ip c_5 hE
    refine lv_iload hx hb dX2_costBy_51 (lv_at hl 0 rfl) ?_
    refine lv_iadd hx hb dX2_costBy_53 ?_
    obtain rfl := Option.some.inj hE
    exact m_iret hC hP hS dX2_costBy_54
  · have hE := iq c_5 hE
    refine lv_iload hx hb dX2_costBy_46 (lv_at hl 1 rfl) ?_
    refine lv_goto (tgt := 53) hx hb dX2_costBy_48 (by decide) ?_
    refine lv_iadd hx hb dX2_costBy_53 ?_
    obtain rfl := Option.some.inj hE
    exact m_iret hC hP hS dX2_costBy_54
def fX2_sings_B73 (k : Nat) (v1 : Int32) (v2 : Int32) (v3 : Int32) (v5 : Int32) (v6 : Int32) (w : MS) (a : Int32 × Int32 × Int32) : Option ((Int32 × Int32 × Int32) ⊕ (Int32 × Int32)) := if ((v6 + v5) - (1 : Int32)) ≤ a.2.2 then (some (.inr (a.1, a.2.1))) else ((fX2_costBy w v6 ((v6 + v5) - (1 : Int32)) a.2.2).bind fun r_10 => if r_10 < a.2.1 then (some (.inl (a.2.2, r_10, (a.2.2 + (1 : Int32))))) else (some (.inl (a.1, a.2.1, (a.2.2 + (1 : Int32))))))
set_option maxHeartbeats 1000000 in
theorem wX2_sings_B73 {p : Program} {l : Launch} {e : Env} {s : State} {m : MethodId} {args : Array Value} {below : List Frame} {meth : Method} {c : Code} {E : ME} {Q : State → Prop} (k : Nat) (v1 : Int32) (v2 : Int32) (v3 : Int32) (v5 : Int32) (v6 : Int32) (w : MS) (hC : mC E cX2_sings 10 (some .int) p s m args meth c) (a : Int32 × Int32 × Int32) (y : (Int32 × Int32 × Int32) ⊕ (Int32 × Int32)) (hE : fX2_sings_B73 k v1 v2 v3 v5 v6 w a = some y) (hc : ∀ a : Int32 × Int32 × Int32, y = .inl a → mW p l e rmX2_sings s m args below meth c E 10 Q 73 [(0, .ref (E.2.2.2.1 0)), (1, .int v1), (2, .int v2), (3, .int v3), (4, .int a.1), (5, .int v5), (6, .int v6), (7, .int a.2.1), (8, .int a.2.2)] [] w) (hx1 : ∀ b : Int32 × Int32, y = .inr b → mW p l e rmX2_sings s m args below meth c E 10 Q 126 [(0, .ref (E.2.2.2.1 0)), (1, .int v1), (2, .int v2), (3, .int v3), (4, .int b.1), (5, .int v5), (6, .int v6), (7, .int b.2)] [] w) : mW p l e rmX2_sings s m args below meth c E 10 Q 73 [(0, .ref (E.2.2.2.1 0)), (1, .int v1), (2, .int v2), (3, .int v3), (4, .int a.1), (5, .int v5), (6, .int v6), (7, .int a.2.1), (8, .int a.2.2)] [] w := by
  intro H locs ls hP hS hl
  have hx := hC.1
  have hb := hC.2.1
  have hown := hC.2.2.2.2.2.1
  have hts := hC.2.2.2.2.2.2.1
  unfold fX2_sings_B73 at hE
  refine lv_iload hx hb dX2_sings_73 (lv_at hl 8 rfl) ?_
  refine lv_iload hx hb dX2_sings_75 (lv_at hl 6 rfl) ?_
  refine lv_iload hx hb dX2_sings_77 (lv_at hl 5 rfl) ?_
  refine lv_iadd hx hb dX2_sings_79 ?_
  refine lv_iconst (v := 1) hx hb dX2_sings_80 (by decide) ?_
  refine lv_isub hx hb dX2_sings_81 ?_
  refine lv_icmp_ge (tgt := 126) hx hb dX2_sings_82 (by decide) (fun c_9 => ?_) (fun c_9 => ?_)
  · have hE := ip c_9 hE
    exact hx1 _ (Option.some.inj hE).symm H locs ls hP hS (lv_sub hl [0, 1, 2, 3, 4, 5, 6, 7] rfl)
  · have hE := iq c_9 hE
    refine lv_aload_n hx hb dX2_sings_85 rfl (lv_at hl 0 rfl) ?_
    refine lv_iload hx hb dX2_sings_86 (lv_at hl 6 rfl) ?_
    refine lv_iload hx hb dX2_sings_88 (lv_at hl 6 rfl) ?_
    refine lv_iload hx hb dX2_sings_90 (lv_at hl 5 rfl) ?_
    refine lv_iadd hx hb dX2_sings_92 ?_
    refine lv_iconst (v := 1) hx hb dX2_sings_93 (by decide) ?_
    refine lv_isub hx hb dX2_sings_94 ?_
    refine lv_iload hx hb dX2_sings_95 (lv_at hl 8 rfl) ?_
    obtain ⟨r_10, h_10, hE⟩ := ob hE
    refine m_calli [.int v6, .int ((v6 + v5) - (1 : Int32)), .int a.2.2] hC hP hS hl.1 (wX2_costBy w v6 ((v6 + v5) - (1 : Int32)) a.2.2 r_10 h_10) (cwV 3 hts lkX2_419 rfl rfl rfl cdX2_costBy ⟨Nat.le_of_ble_eq_true rfl, Nat.le_of_ble_eq_true rfl⟩) rfl rfl (lv_room (Nat.le_of_ble_eq_true rfl)) dX2_sings_97 (fun H locs hP hS => ?_)
    refine lv_istore (lv' := [(9, .int r_10), (0, .ref (E.2.2.2.1 0)), (1, .int v1), (2, .int v2), (3, .int v3), (4, .int a.1), (5, .int v5), (6, .int v6), (7, .int a.2.1), (8, .int a.2.2)]) hx hb dX2_sings_100 hl (Nat.le_of_ble_eq_true rfl) rfl (fun ls hl => ?_)
    refine lv_iload hx hb dX2_sings_102 (lv_at hl 0 rfl) ?_
    refine lv_iload hx hb dX2_sings_104 (lv_at hl 8 rfl) ?_
    refine lv_icmp_lt (tgt := 112) hx hb dX2_sings_106 (by decide) (fun c_11 => ?_) (fun c_11 => ?_)
    · have hE := ip c_11 hE
      refine lv_iload hx hb dX2_sings_112 (lv_at hl 0 rfl) ?_
      refine lv_istore (lv' := [(7, .int r_10), (9, .int r_10), (0, .ref (E.2.2.2.1 0)), (1, .int v1), (2, .int v2), (3, .int v3), (4, .int a.1), (5, .int v5), (6, .int v6), (8, .int a.2.2)]) hx hb dX2_sings_114 hl (Nat.le_of_ble_eq_true rfl) rfl (fun ls hl => ?_)
      refine lv_iload hx hb dX2_sings_116 (lv_at hl 9 rfl) ?_
      refine lv_istore (lv' := [(4, .int a.2.2), (7, .int r_10), (9, .int r_10), (0, .ref (E.2.2.2.1 0)), (1, .int v1), (2, .int v2), (3, .int v3), (5, .int v5), (6, .int v6), (8, .int a.2.2)]) hx hb dX2_sings_118 hl (Nat.le_of_ble_eq_true rfl) rfl (fun ls hl => ?_)
      refine lv_iinc (v := (a.2.2 + (1 : Int32))) (lv' := [(8, .int (a.2.2 + (1 : Int32))), (4, .int a.2.2), (7, .int r_10), (9, .int r_10), (0, .ref (E.2.2.2.1 0)), (1, .int v1), (2, .int v2), (3, .int v3), (5, .int v5), (6, .int v6)]) hx hb dX2_sings_120 hl (k := 9) rfl rfl (Nat.le_of_ble_eq_true rfl) rfl (fun ls hl => ?_)
      refine lv_goto (tgt := 73) hx hb dX2_sings_123 (by decide) ?_
      exact hc _ (Option.some.inj hE).symm H locs ls hP hS (lv_sub hl [4, 5, 6, 7, 1, 8, 9, 2, 0] rfl)
    · have hE := iq c_11 hE
      refine lv_goto (tgt := 120) hx hb dX2_sings_109 (by decide) ?_
      refine lv_iinc (v := (a.2.2 + (1 : Int32))) (lv' := [(8, .int (a.2.2 + (1 : Int32))), (9, .int r_10), (0, .ref (E.2.2.2.1 0)), (1, .int v1), (2, .int v2), (3, .int v3), (4, .int a.1), (5, .int v5), (6, .int v6), (7, .int a.2.1)]) hx hb dX2_sings_120 hl (k := 9) rfl rfl (Nat.le_of_ble_eq_true rfl) rfl (fun ls hl => ?_)
      refine lv_goto (tgt := 73) hx hb dX2_sings_123 (by decide) ?_
      exact hc _ (Option.some.inj hE).symm H locs ls hP hS (lv_sub hl [2, 3, 4, 5, 6, 7, 8, 9, 0] rfl)
def fX2_sings_J64 (k : Nat) (z : MS) (v1 : Int32) (v2 : Int32) (v3 : Int32) (v5 : Int32) (x6 : Int32) (t0 : Int32) : Option ((Int32 × Int32 × MS) ⊕ (Int32 × MS)) := (lpo (fX2_sings_B73 k v1 v2 v3 v5 x6 z) k ((-1 : Int32), t0, x6)).bind fun x_12 => if ib (((((30 : Int32) * x6) + x6) + v5) - (1 : Int32)) 900 then none else (nm (mA z 31 (upd (z.2.2.1 31) (((((30 : Int32) * x6) + x6) + v5) - (1 : Int32)).toNatClampNeg x_12.2)) fun z_13 => some (.inl (x_12.1, (x6 + (1 : Int32)), z_13)))
set_option maxHeartbeats 1000000 in
theorem wX2_sings_J64 {p : Program} {l : Launch} {e : Env} {s : State} {m : MethodId} {args : Array Value} {below : List Frame} {meth : Method} {c : Code} {E : ME} {Q : State → Prop} (k : Nat) (z : MS) (v1 : Int32) (v2 : Int32) (v3 : Int32) (v5 : Int32) (x6 : Int32) (t0 : Int32) (hC : mC E cX2_sings 10 (some .int) p s m args meth c) (y : (Int32 × Int32 × MS) ⊕ (Int32 × MS)) (hE : fX2_sings_J64 k z v1 v2 v3 v5 x6 t0 = some y) (hc : ∀ a : Int32 × Int32 × MS, y = .inl a → mW p l e rmX2_sings s m args below meth c E 10 Q 40 [(0, .ref (E.2.2.2.1 0)), (1, .int v1), (2, .int v2), (3, .int v3), (4, .int a.1), (5, .int v5), (6, .int a.2.1)] [] a.2.2) (hx1 : ∀ b : Int32 × MS, y = .inr b → mW p l e rmX2_sings s m args below meth c E 10 Q 152 [(0, .ref (E.2.2.2.1 0)), (1, .int v1), (2, .int v2), (3, .int v3), (4, .int b.1), (5, .int v5)] [] b.2) : mW p l e rmX2_sings s m args below meth c E 10 Q 64 [(0, .ref (E.2.2.2.1 0)), (1, .int v1), (2, .int v2), (3, .int v3), (5, .int v5), (6, .int x6)] [.int t0] z := by
  intro H locs ls hP hS hl
  have hx := hC.1
  have hb := hC.2.1
  have hown := hC.2.2.2.2.2.1
  have hts := hC.2.2.2.2.2.2.1
  unfold fX2_sings_J64 at hE
  refine lv_istore (lv' := [(7, .int t0), (0, .ref (E.2.2.2.1 0)), (1, .int v1), (2, .int v2), (3, .int v3), (5, .int v5), (6, .int x6)]) hx hb dX2_sings_64 hl (Nat.le_of_ble_eq_true rfl) rfl (fun ls hl => ?_)
  refine lv_iconst (v := -1) hx hb dX2_sings_66 (by decide) ?_
  refine lv_istore (lv' := [(4, .int (-1 : Int32)), (7, .int t0), (0, .ref (E.2.2.2.1 0)), (1, .int v1), (2, .int v2), (3, .int v3), (5, .int v5), (6, .int x6)]) hx hb dX2_sings_67 hl (Nat.le_of_ble_eq_true rfl) rfl (fun ls hl => ?_)
  refine lv_iload hx hb dX2_sings_69 (lv_at hl 7 rfl) ?_
  refine lv_istore (lv' := [(8, .int x6), (4, .int (-1 : Int32)), (7, .int t0), (0, .ref (E.2.2.2.1 0)), (1, .int v1), (2, .int v2), (3, .int v3), (5, .int v5), (6, .int x6)]) hx hb dX2_sings_71 hl (Nat.le_of_ble_eq_true rfl) rfl (fun ls hl => ?_)
  obtain ⟨x_12, h_12, hE⟩ := ob hE
  refine lpo_walk (fun p_12 : Int32 × Int32 × Int32 => mW p l e rmX2_sings s m args below meth c E 10 Q 73 [(0, .ref (E.2.2.2.1 0)), (1, .int v1), (2, .int v2), (3, .int v3), (4, .int p_12.1), (5, .int v5), (6, .int x6), (7, .int p_12.2.1), (8, .int p_12.2.2)] [] z) (fun q_12 : Int32 × Int32 => mW p l e rmX2_sings s m args below meth c E 10 Q 126 [(0, .ref (E.2.2.2.1 0)), (1, .int v1), (2, .int v2), (3, .int v3), (4, .int q_12.1), (5, .int v5), (6, .int x6), (7, .int q_12.2)] [] z) (fun a_12 y_12 hB_12 hc_12 hx_12 => wX2_sings_B73 k v1 v2 v3 v5 x6 z hC a_12 y_12 hB_12 hc_12 hx_12) _ _ x_12 h_12 ?_ H locs ls hP hS (lv_sub hl [3, 4, 5, 6, 1, 7, 8, 2, 0] rfl)
  intro H locs ls hP hS hl
  refine lv_aload_n hx hb dX2_sings_126 rfl (lv_at hl 0 rfl) ?_
  refine gM_62 hC hP dX2_sings_127 ?_
  refine lv_bipush (v := 30) hx hb dX2_sings_130 (by decide) ?_
  refine lv_iload hx hb dX2_sings_132 (lv_at hl 6 rfl) ?_
  refine lv_imul hx hb dX2_sings_134 ?_
  refine lv_iload hx hb dX2_sings_135 (lv_at hl 6 rfl) ?_
  refine lv_iadd hx hb dX2_sings_137 ?_
  refine lv_iload hx hb dX2_sings_138 (lv_at hl 5 rfl) ?_
  refine lv_iadd hx hb dX2_sings_140 ?_
  refine lv_iconst (v := 1) hx hb dX2_sings_141 (by decide) ?_
  refine lv_isub hx hb dX2_sings_142 ?_
  refine lv_iload hx hb dX2_sings_143 (lv_at hl 7 rfl) ?_
  obtain ⟨c_13, hE⟩ := og hE
  obtain ⟨z_13, ez_13, hE⟩ := on hE
  refine tM_31 hC hP hS c_13 ez_13 dX2_sings_145 (fun H locs hP hS => ?_)
  refine lv_iinc (v := (x6 + (1 : Int32))) (lv' := [(6, .int (x6 + (1 : Int32))), (0, .ref (E.2.2.2.1 0)), (1, .int v1), (2, .int v2), (3, .int v3), (4, .int x_12.1), (5, .int v5), (7, .int x_12.2)]) hx hb dX2_sings_146 hl (k := 6) rfl rfl (Nat.le_of_ble_eq_true rfl) rfl (fun ls hl => ?_)
  refine lv_goto (tgt := 40) hx hb dX2_sings_149 (by decide) ?_
  exact hc _ (Option.some.inj hE).symm H locs ls hP hS (lv_sub hl [1, 2, 3, 4, 5, 6, 0] rfl)
def fX2_sings_B40 (k : Nat) (v1 : Int32) (v2 : Int32) (v3 : Int32) (v5 : Int32) (a : Int32 × Int32 × MS) : Option ((Int32 × Int32 × MS) ⊕ (Int32 × MS)) := if v2 < ((a.2.1 + v5) - (1 : Int32)) then (some (.inr (a.1, a.2.2))) else (if v5 = (1 : Int32) then ((fX2_sings_J64 k a.2.2 v1 v2 v3 v5 a.2.1 (0 : Int32))) else ((fX2_sings_J64 k a.2.2 v1 v2 v3 v5 a.2.1 (1000000 : Int32))))
set_option maxHeartbeats 1000000 in
theorem wX2_sings_B40 {p : Program} {l : Launch} {e : Env} {s : State} {m : MethodId} {args : Array Value} {below : List Frame} {meth : Method} {c : Code} {E : ME} {Q : State → Prop} (k : Nat) (v1 : Int32) (v2 : Int32) (v3 : Int32) (v5 : Int32) (hC : mC E cX2_sings 10 (some .int) p s m args meth c) (a : Int32 × Int32 × MS) (y : (Int32 × Int32 × MS) ⊕ (Int32 × MS)) (hE : fX2_sings_B40 k v1 v2 v3 v5 a = some y) (hc : ∀ a : Int32 × Int32 × MS, y = .inl a → mW p l e rmX2_sings s m args below meth c E 10 Q 40 [(0, .ref (E.2.2.2.1 0)), (1, .int v1), (2, .int v2), (3, .int v3), (4, .int a.1), (5, .int v5), (6, .int a.2.1)] [] a.2.2) (hx1 : ∀ b : Int32 × MS, y = .inr b → mW p l e rmX2_sings s m args below meth c E 10 Q 152 [(0, .ref (E.2.2.2.1 0)), (1, .int v1), (2, .int v2), (3, .int v3), (4, .int b.1), (5, .int v5)] [] b.2) : mW p l e rmX2_sings s m args below meth c E 10 Q 40 [(0, .ref (E.2.2.2.1 0)), (1, .int v1), (2, .int v2), (3, .int v3), (4, .int a.1), (5, .int v5), (6, .int a.2.1)] [] a.2.2 := by
  intro H locs ls hP hS hl
  have hx := hC.1
  have hb := hC.2.1
  have hown := hC.2.2.2.2.2.1
  have hts := hC.2.2.2.2.2.2.1
  unfold fX2_sings_B40 at hE
  refine lv_iload hx hb dX2_sings_40 (lv_at hl 6 rfl) ?_
  refine lv_iload hx hb dX2_sings_42 (lv_at hl 5 rfl) ?_
  refine lv_iadd hx hb dX2_sings_44 ?_
  refine lv_iconst (v := 1) hx hb dX2_sings_45 (by decide) ?_
  refine lv_isub hx hb dX2_sings_46 ?_
  refine lv_iload_n hx hb dX2_sings_47 rfl (lv_at hl 2 rfl) ?_
  refine lv_icmp_gt (tgt := 152) hx hb dX2_sings_48 (by decide) (fun c_7 => ?_) (fun c_7 => ?_)
  · have hE := ip c_7 hE
    exact hx1 _ (Option.some.inj hE).symm H locs ls hP hS (lv_sub hl [0, 1, 2, 3, 4, 5] rfl)
  · have hE := iq c_7 hE
    refine lv_iload hx hb dX2_sings_51 (lv_at hl 5 rfl) ?_
    refine lv_iconst (v := 1) hx hb dX2_sings_53 (by decide) ?_
    refine lv_icmp_ne (tgt := 61) hx hb dX2_sings_54 (by decide) (fun c_8 => ?_) (fun c_8 => ?_)
    · have hE := iq c_8 hE
      refine lv_ldcw (v := 1000000) hx hb hown (hts _ q1932) dX2_sings_61 ?_
      exact wX2_sings_J64 k a.2.2 v1 v2 v3 v5 a.2.1 (1000000 : Int32) hC y hE hc hx1 H locs ls hP hS (lv_sub hl [0, 1, 2, 3, 5, 6] rfl)
    · have hE := ip c_8 hE
      refine lv_iconst (v := 0) hx hb dX2_sings_57 (by decide) ?_
      refine lv_goto (tgt := 64) hx hb dX2_sings_58 (by decide) ?_
      exact wX2_sings_J64 k a.2.2 v1 v2 v3 v5 a.2.1 (0 : Int32) hC y hE hc hx1 H locs ls hP hS (lv_sub hl [0, 1, 2, 3, 5, 6] rfl)
def fX2_sings_B27 (k : Nat) (v1 : Int32) (v2 : Int32) (v3 : Int32) (a : Int32 × Int32 × MS) : Option ((Int32 × Int32 × MS) ⊕ (Int32 × MS)) := if ((v2 - v1) + (1 : Int32)) < a.2.1 then (some (.inr (a.1, a.2.2))) else ((lpo (fX2_sings_B40 k v1 v2 v3 a.2.1) k (a.1, v1, a.2.2)).bind fun x_14 => some (.inl (x_14.1, (a.2.1 + (1 : Int32)), x_14.2)))
set_option maxHeartbeats 1000000 in
theorem wX2_sings_B27 {p : Program} {l : Launch} {e : Env} {s : State} {m : MethodId} {args : Array Value} {below : List Frame} {meth : Method} {c : Code} {E : ME} {Q : State → Prop} (k : Nat) (v1 : Int32) (v2 : Int32) (v3 : Int32) (hC : mC E cX2_sings 10 (some .int) p s m args meth c) (a : Int32 × Int32 × MS) (y : (Int32 × Int32 × MS) ⊕ (Int32 × MS)) (hE : fX2_sings_B27 k v1 v2 v3 a = some y) (hc : ∀ a : Int32 × Int32 × MS, y = .inl a → mW p l e rmX2_sings s m args below meth c E 10 Q 27 [(0, .ref (E.2.2.2.1 0)), (1, .int v1), (2, .int v2), (3, .int v3), (4, .int a.1), (5, .int a.2.1)] [] a.2.2) (hx1 : ∀ b : Int32 × MS, y = .inr b → mW p l e rmX2_sings s m args below meth c E 10 Q 158 [(0, .ref (E.2.2.2.1 0)), (1, .int v1), (2, .int v2), (3, .int v3), (4, .int b.1)] [] b.2) : mW p l e rmX2_sings s m args below meth c E 10 Q 27 [(0, .ref (E.2.2.2.1 0)), (1, .int v1), (2, .int v2), (3, .int v3), (4, .int a.1), (5, .int a.2.1)] [] a.2.2 := by
  intro H locs ls hP hS hl
  have hx := hC.1
  have hb := hC.2.1
  have hown := hC.2.2.2.2.2.1
  have hts := hC.2.2.2.2.2.2.1
  unfold fX2_sings_B27 at hE
  refine lv_iload hx hb dX2_sings_27 (lv_at hl 5 rfl) ?_
  refine lv_iload_n hx hb dX2_sings_29 rfl (lv_at hl 2 rfl) ?_
  refine lv_iload_n hx hb dX2_sings_30 rfl (lv_at hl 1 rfl) ?_
  refine lv_isub hx hb dX2_sings_31 ?_
  refine lv_iconst (v := 1) hx hb dX2_sings_32 (by decide) ?_
  refine lv_iadd hx hb dX2_sings_33 ?_
  refine lv_icmp_gt (tgt := 158) hx hb dX2_sings_34 (by decide) (fun c_6 => ?_) (fun c_6 => ?_)
  · have hE := ip c_6 hE
    exact hx1 _ (Option.some.inj hE).symm H locs ls hP hS (lv_sub hl [0, 1, 2, 3, 4] rfl)
  · have hE := iq c_6 hE
    refine lv_iload_n hx hb dX2_sings_37 rfl (lv_at hl 1 rfl) ?_
    refine lv_istore (lv' := [(6, .int v1), (0, .ref (E.2.2.2.1 0)), (1, .int v1), (2, .int v2), (3, .int v3), (4, .int a.1), (5, .int a.2.1)]) hx hb dX2_sings_38 hl (Nat.le_of_ble_eq_true rfl) rfl (fun ls hl => ?_)
    obtain ⟨x_14, h_14, hE⟩ := ob hE
    refine lpo_walk (fun p_14 : Int32 × Int32 × MS => mW p l e rmX2_sings s m args below meth c E 10 Q 40 [(0, .ref (E.2.2.2.1 0)), (1, .int v1), (2, .int v2), (3, .int v3), (4, .int p_14.1), (5, .int a.2.1), (6, .int p_14.2.1)] [] p_14.2.2) (fun q_14 : Int32 × MS => mW p l e rmX2_sings s m args below meth c E 10 Q 152 [(0, .ref (E.2.2.2.1 0)), (1, .int v1), (2, .int v2), (3, .int v3), (4, .int q_14.1), (5, .int a.2.1)] [] q_14.2) (fun a_14 y_14 hB_14 hc_14 hx_14 => wX2_sings_B40 k v1 v2 v3 a.2.1 hC a_14 y_14 hB_14 hc_14 hx_14) _ _ x_14 h_14 ?_ H locs ls hP hS (lv_sub hl [1, 2, 3, 4, 5, 6, 0] rfl)
    intro H locs ls hP hS hl
    refine lv_iinc (v := (a.2.1 + (1 : Int32))) (lv' := [(5, .int (a.2.1 + (1 : Int32))), (0, .ref (E.2.2.2.1 0)), (1, .int v1), (2, .int v2), (3, .int v3), (4, .int x_14.1)]) hx hb dX2_sings_152 hl (k := 5) rfl rfl (Nat.le_of_ble_eq_true rfl) rfl (fun ls hl => ?_)
    refine lv_goto (tgt := 27) hx hb dX2_sings_155 (by decide) ?_
    exact hc _ (Option.some.inj hE).symm H locs ls hP hS (lv_sub hl [1, 2, 3, 4, 5, 0] rfl)
def fX2_sings (k : Nat) (z : MS) (x1 : Int32) (x2 : Int32) (x3 : Int32) : Option (Int32 × MS) := (fX2_isPlace x1).bind fun r_1 => if r_1 = 0 then (some ((-1 : Int32), z)) else ((fX2_isPlace x2).bind fun r_3 => if r_3 = 0 then (some ((-1 : Int32), z)) else (if x1 ≤ x2 then ((lpo (fX2_sings_B27 k x1 x2 x3) k ((-1 : Int32), (1 : Int32), z)).bind fun x_15 => if x3 = 0 then (if ib (((30 : Int32) * x1) + x2) 900 then none else (some ((x_15.2.2.2.1 31 (((30 : Int32) * x1) + x2).toNatClampNeg), x_15.2))) else (some (x_15.1, x_15.2))) else (some ((-1 : Int32), z))))
set_option maxHeartbeats 1000000 in
theorem wX2_sings {l : Launch} {E : ME} (k : Nat) (z : MS) (x1 : Int32) (x2 : Int32) (x3 : Int32) (y : Int32 × MS) (hE : fX2_sings k z x1 x2 x3 = some y) : mM l yX2_sings (ws_ yX2_sings cX2_sings 10 (some .int)) rmX2_sings E z [.int x1, .int x2, .int x3] (some (.int y.1)) y.2 := by
  refine m_met (by decide) rfl (Nat.le_of_ble_eq_true rfl) (fun p e s m args below meth c hC => ?_)
  intro H locs ls hP hS hl
  have hx := hC.1
  have hb := hC.2.1
  have hown := hC.2.2.2.2.2.1
  have hts := hC.2.2.2.2.2.2.1
  have hl : lv_has ls 10 [(0, .ref (E.2.2.2.1 0)), (1, .int x1), (2, .int x2), (3, .int x3)] := hl
  unfold fX2_sings at hE
  refine lv_iload_n hx hb dX2_sings_0 rfl (lv_at hl 1 rfl) ?_
  obtain ⟨r_1, h_1, hE⟩ := ob hE
  refine s_calli [.int x1] hC.sC hl.1 (wX2_isPlace x1 r_1 h_1) (va_cwS 1 hts lkX2_73 rfl rfl rfl cdX2_isPlace ⟨Nat.le_of_ble_eq_true rfl, Nat.le_of_ble_eq_true rfl⟩) rfl rfl (lv_room (Nat.le_of_ble_eq_true rfl)) ⟨Nat.zero_le _, Nat.zero_le _⟩ dX2_sings_1 ?_
  refine lv_if_eq (tgt := 19) hx hb dX2_sings_4 (by decide) (fun c_2 => ?_) (fun c_2 => ?_)
  · have hE := ip c_2 hE
    refine lv_iconst (v := -1) hx hb dX2_sings_19 (by decide) ?_
    obtain rfl := Option.some.inj hE
    exact m_iret hC hP hS dX2_sings_20
  · have hE := iq c_2 hE
    refine lv_iload_n hx hb dX2_sings_7 rfl (lv_at hl 2 rfl) ?_
    obtain ⟨r_3, h_3, hE⟩ := ob hE
    refine s_calli [.int x2] hC.sC hl.1 (wX2_isPlace x2 r_3 h_3) (va_cwS 1 hts lkX2_73 rfl rfl rfl cdX2_isPlace ⟨Nat.le_of_ble_eq_true rfl, Nat.le_of_ble_eq_true rfl⟩) rfl rfl (lv_room (Nat.le_of_ble_eq_true rfl)) ⟨Nat.zero_le _, Nat.zero_le _⟩ dX2_sings_8 ?_
    refine lv_if_eq (tgt := 19) hx hb dX2_sings_11 (by decide) (fun c_4 => ?_) (fun c_4 => ?_)
    · have hE := ip c_4 hE
      refine lv_iconst (v := -1) hx hb dX2_sings_19 (by decide) ?_
      obtain rfl := Option.some.inj hE
      exact m_iret hC hP hS dX2_sings_20
    · have hE := iq c_4 hE
      refine lv_iload_n hx hb dX2_sings_14 rfl (lv_at hl 1 rfl) ?_
      refine lv_iload_n hx hb dX2_sings_15 rfl (lv_at hl 2 rfl) ?_
      refine lv_icmp_le (tgt := 21) hx hb dX2_sings_16 (by decide) (fun c_5 => ?_) (fun c_5 => ?_)
      · have hE := ip c_5 hE
        refine lv_iconst (v := -1) hx hb dX2_sings_21 (by decide) ?_
        refine lv_istore (lv' := [(4, .int (-1 : Int32)), (0, .ref (E.2.2.2.1 0)), (1, .int x1), (2, .int x2), (3, .int x3)]) hx hb dX2_sings_22 hl (Nat.le_of_ble_eq_true rfl) rfl (fun ls hl => ?_)
        refine lv_iconst (v := 1) hx hb dX2_sings_24 (by decide) ?_
        refine lv_istore (lv' := [(5, .int (1 : Int32)), (4, .int (-1 : Int32)), (0, .ref (E.2.2.2.1 0)), (1, .int x1), (2, .int x2), (3, .int x3)]) hx hb dX2_sings_25 hl (Nat.le_of_ble_eq_true rfl) rfl (fun ls hl => ?_)
        obtain ⟨x_15, h_15, hE⟩ := ob hE
        refine lpo_walk (fun p_15 : Int32 × Int32 × MS => mW p l e rmX2_sings s m args below meth c E 10 (mQ E below args s (some (.int y.1)) y.2) 27 [(0, .ref (E.2.2.2.1 0)), (1, .int x1), (2, .int x2), (3, .int x3), (4, .int p_15.1), (5, .int p_15.2.1)] [] p_15.2.2) (fun q_15 : Int32 × MS => mW p l e rmX2_sings s m args below meth c E 10 (mQ E below args s (some (.int y.1)) y.2) 158 [(0, .ref (E.2.2.2.1 0)), (1, .int x1), (2, .int x2), (3, .int x3), (4, .int q_15.1)] [] q_15.2) (fun a_15 y_15 hB_15 hc_15 hx_15 => wX2_sings_B27 k x1 x2 x3 hC a_15 y_15 hB_15 hc_15 hx_15) _ _ x_15 h_15 ?_ H locs ls hP hS (lv_sub hl [2, 3, 4, 5, 1, 0] rfl)
        intro H locs ls hP hS hl
        refine lv_iload_n hx hb dX2_sings_158 rfl (lv_at hl 3 rfl) ?_
        refine lv_if_eq (tgt := 167) hx hb dX2_sings_159 (by decide) (fun c_16 => ?_) (fun c_16 => ?_)
        · have hE := ip c_16 hE
          refine lv_aload_n hx hb dX2_sings_167 rfl (lv_at hl 0 rfl) ?_
          refine gM_62 hC hP dX2_sings_168 ?_
          refine lv_bipush (v := 30) hx hb dX2_sings_171 (by decide) ?_
          refine lv_iload_n hx hb dX2_sings_173 rfl (lv_at hl 1 rfl) ?_
          refine lv_imul hx hb dX2_sings_174 ?_
          refine lv_iload_n hx hb dX2_sings_175 rfl (lv_at hl 2 rfl) ?_
          refine lv_iadd hx hb dX2_sings_176 ?_
          obtain ⟨c_17, hE⟩ := og hE
          refine aM_31 hC hP c_17 dX2_sings_177 ?_
          obtain rfl := Option.some.inj hE
          exact m_iret hC hP hS dX2_sings_178
        · have hE := iq c_16 hE
          refine lv_iload hx hb dX2_sings_162 (lv_at hl 4 rfl) ?_
          refine lv_goto (tgt := 178) hx hb dX2_sings_164 (by decide) ?_
          obtain rfl := Option.some.inj hE
          exact m_iret hC hP hS dX2_sings_178
      · have hE := iq c_5 hE
        refine lv_iconst (v := -1) hx hb dX2_sings_19 (by decide) ?_
        obtain rfl := Option.some.inj hE
        exact m_iret hC hP hS dX2_sings_20
def fX2_visits_B16 (k : Nat) (v1 : Int32) (w : MS) (a : Int32 × Int32) : Option ((Int32 × Int32) ⊕ Int32) := (fX2_has a.1 a.2).bind fun r_3 => if r_3 = 0 then (if ib ((76 : Int32) + v1) 3205 then none else (nm ((a.2 + (w.2.2.1 0 ((76 : Int32) + v1).toNatClampNeg)) - (a.2 + (w.2.2.1 0 ((76 : Int32) + v1).toNatClampNeg)) / (30 : Int32) * (30 : Int32)) fun v_6 => some (.inl ((a.1 ||| ((1 : Int32) <<< (a.2 &&& 31))), v_6)))) else (some (.inr a.1))
set_option maxHeartbeats 1000000 in
theorem wX2_visits_B16 {p : Program} {l : Launch} {e : Env} {s : State} {m : MethodId} {args : Array Value} {below : List Frame} {meth : Method} {c : Code} {E : ME} {Q : State → Prop} (k : Nat) (v1 : Int32) (w : MS) (hC : mC E cX2_visits 5 (some .int) p s m args meth c) (a : Int32 × Int32) (y : (Int32 × Int32) ⊕ Int32) (hE : fX2_visits_B16 k v1 w a = some y) (hc : ∀ a : Int32 × Int32, y = .inl a → mW p l e rmX2_visits s m args below meth c E 5 Q 16 [(0, .ref (E.2.2.2.1 0)), (1, .int v1), (3, .int a.1), (4, .int a.2)] [] w) (hx1 : ∀ b : Int32, y = .inr b → mW p l e rmX2_visits s m args below meth c E 5 Q 52 [(3, .int b)] [] w) : mW p l e rmX2_visits s m args below meth c E 5 Q 16 [(0, .ref (E.2.2.2.1 0)), (1, .int v1), (3, .int a.1), (4, .int a.2)] [] w := by
  intro H locs ls hP hS hl
  have hx := hC.1
  have hb := hC.2.1
  have hown := hC.2.2.2.2.2.1
  have hts := hC.2.2.2.2.2.2.1
  unfold fX2_visits_B16 at hE
  refine lv_iload_n hx hb dX2_visits_16 rfl (lv_at hl 2 rfl) ?_
  refine lv_iload hx hb dX2_visits_17 (lv_at hl 3 rfl) ?_
  obtain ⟨r_3, h_3, hE⟩ := ob hE
  refine s_calli [.int a.1, .int a.2] hC.sC hl.1 (wX2_has a.1 a.2 r_3 h_3) (va_cwS 2 hts lkX2_235 rfl rfl rfl cdX2_has ⟨Nat.le_of_ble_eq_true rfl, Nat.le_of_ble_eq_true rfl⟩) rfl rfl (lv_room (Nat.le_of_ble_eq_true rfl)) ⟨Nat.zero_le _, Nat.zero_le _⟩ dX2_visits_19 ?_
  refine lv_if_ne (tgt := 52) hx hb dX2_visits_22 (by decide) (fun c_4 => ?_) (fun c_4 => ?_)
  · have hE := iq c_4 hE
    exact hx1 _ (Option.some.inj hE).symm H locs ls hP hS (lv_sub hl [2] rfl)
  · have hE := ip c_4 hE
    refine lv_iload_n hx hb dX2_visits_25 rfl (lv_at hl 2 rfl) ?_
    refine lv_iconst (v := 1) hx hb dX2_visits_26 (by decide) ?_
    refine lv_iload hx hb dX2_visits_27 (lv_at hl 3 rfl) ?_
    refine lv_ishl hx hb dX2_visits_29 ?_
    refine lv_ior hx hb dX2_visits_30 ?_
    refine lv_istore_n (lv' := [(3, .int (a.1 ||| ((1 : Int32) <<< (a.2 &&& 31)))), (0, .ref (E.2.2.2.1 0)), (1, .int v1), (4, .int a.2)]) hx hb dX2_visits_31 rfl hl (Nat.le_of_ble_eq_true rfl) rfl (fun ls hl => ?_)
    refine lv_iload hx hb dX2_visits_32 (lv_at hl 3 rfl) ?_
    refine lv_aload_n hx hb dX2_visits_34 rfl (lv_at hl 1 rfl) ?_
    refine gM_7 hC hP dX2_visits_35 ?_
    refine lv_bipush (v := 76) hx hb dX2_visits_38 (by decide) ?_
    refine lv_iload_n hx hb dX2_visits_40 rfl (lv_at hl 2 rfl) ?_
    refine lv_iadd hx hb dX2_visits_41 ?_
    obtain ⟨c_5, hE⟩ := og hE
    refine aM_0 hC hP c_5 dX2_visits_42 ?_
    refine lv_iadd hx hb dX2_visits_43 ?_
    refine lv_bipush (v := 30) hx hb dX2_visits_44 (by decide) ?_
    refine lv_irem hx hb dX2_visits_46 (by decide) ?_
    refine nm_i hE (fun v_6 ev_6 hE => ?_)
    refine lv_istore (lv' := [(4, .int v_6), (3, .int (a.1 ||| ((1 : Int32) <<< (a.2 &&& 31)))), (0, .ref (E.2.2.2.1 0)), (1, .int v1)]) hx hb dX2_visits_47 hl (Nat.le_of_ble_eq_true rfl) rfl (fun ls hl => ?_)
    refine lv_goto (tgt := 16) hx hb dX2_visits_49 (by decide) ?_
    exact hc _ (Option.some.inj hE).symm H locs ls hP hS (lv_sub hl [2, 3, 1, 0] rfl)
def fX2_visits (k : Nat) (z : MS) (x1 : Int32) (x2 : Int32) : Option Int32 := (fX2_areRunning z x1 x2).bind fun r_1 => if r_1 = 0 then (some (-1 : Int32)) else ((lpo (fX2_visits_B16 k x1 z) k ((0 : Int32), x2)).bind fun x_7 => some x_7)
set_option maxHeartbeats 1000000 in
theorem wX2_visits {l : Launch} {E : ME} (k : Nat) (z : MS) (x1 : Int32) (x2 : Int32) (y : Int32) (hE : fX2_visits k z x1 x2 = some y) : mM l yX2_visits (ws_ yX2_visits cX2_visits 5 (some .int)) rmX2_visits E z [.int x1, .int x2] (some (.int y)) z := by
  refine m_met (by decide) rfl (Nat.le_of_ble_eq_true rfl) (fun p e s m args below meth c hC => ?_)
  intro H locs ls hP hS hl
  have hx := hC.1
  have hb := hC.2.1
  have hown := hC.2.2.2.2.2.1
  have hts := hC.2.2.2.2.2.2.1
  have hl : lv_has ls 5 [(0, .ref (E.2.2.2.1 0)), (1, .int x1), (2, .int x2)] := hl
  unfold fX2_visits at hE
  refine lv_aload_n hx hb dX2_visits_0 rfl (lv_at hl 0 rfl) ?_
  refine lv_iload_n hx hb dX2_visits_1 rfl (lv_at hl 1 rfl) ?_
  refine lv_iload_n hx hb dX2_visits_2 rfl (lv_at hl 2 rfl) ?_
  obtain ⟨r_1, h_1, hE⟩ := ob hE
  refine m_calli [.int x1, .int x2] hC hP hS hl.1 (wX2_areRunning z x1 x2 r_1 h_1) (cwV 2 hts lkX2_387 rfl rfl rfl cdX2_areRunning ⟨Nat.le_of_ble_eq_true rfl, Nat.le_of_ble_eq_true rfl⟩) rfl rfl (lv_room (Nat.le_of_ble_eq_true rfl)) dX2_visits_3 (fun H locs hP hS => ?_)
  refine lv_if_ne (tgt := 11) hx hb dX2_visits_6 (by decide) (fun c_2 => ?_) (fun c_2 => ?_)
  · have hE := iq c_2 hE
    refine lv_iconst (v := 0) hx hb dX2_visits_11 (by decide) ?_
    refine lv_istore_n (lv' := [(3, .int (0 : Int32)), (0, .ref (E.2.2.2.1 0)), (1, .int x1), (2, .int x2)]) hx hb dX2_visits_12 rfl hl (Nat.le_of_ble_eq_true rfl) rfl (fun ls hl => ?_)
    refine lv_iload_n hx hb dX2_visits_13 rfl (lv_at hl 3 rfl) ?_
    refine lv_istore (lv' := [(4, .int x2), (3, .int (0 : Int32)), (0, .ref (E.2.2.2.1 0)), (1, .int x1), (2, .int x2)]) hx hb dX2_visits_14 hl (Nat.le_of_ble_eq_true rfl) rfl (fun ls hl => ?_)
    obtain ⟨x_7, h_7, hE⟩ := ob hE
    refine lpo_walk (fun p_7 : Int32 × Int32 => mW p l e rmX2_visits s m args below meth c E 5 (mQ E below args s (some (.int y)) z) 16 [(0, .ref (E.2.2.2.1 0)), (1, .int x1), (3, .int p_7.1), (4, .int p_7.2)] [] z) (fun q_7 : Int32 => mW p l e rmX2_visits s m args below meth c E 5 (mQ E below args s (some (.int y)) z) 52 [(3, .int q_7)] [] z) (fun a_7 y_7 hB_7 hc_7 hx_7 => wX2_visits_B16 k x1 z hC a_7 y_7 hB_7 hc_7 hx_7) _ _ x_7 h_7 ?_ H locs ls hP hS (lv_sub hl [2, 3, 1, 0] rfl)
    intro H locs ls hP hS hl
    refine lv_iload_n hx hb dX2_visits_52 rfl (lv_at hl 0 rfl) ?_
    obtain rfl := Option.some.inj hE
    exact m_iret hC hP hS dX2_visits_53
  · have hE := ip c_2 hE
    refine lv_iconst (v := -1) hx hb dX2_visits_9 (by decide) ?_
    obtain rfl := Option.some.inj hE
    exact m_iret hC hP hS dX2_visits_10
def fX2_meet_B24 (k : Nat) (v1 : Int32) (v2 : Int32) (v3 : Int32) (v4 : Int32) (w : MS) (a : Int32) : Option (Int32 ⊕ (Unit ⊕ Int32)) := if (30 : Int32) ≤ a then (some (.inr (.inl ()))) else (if ib ((76 : Int32) + v1) 3205 then none else (if ib ((76 : Int32) + v3) 3205 then none else (if ((v2 + (a * (w.2.2.1 0 ((76 : Int32) + v1).toNatClampNeg))) - (v2 + (a * (w.2.2.1 0 ((76 : Int32) + v1).toNatClampNeg))) / (30 : Int32) * (30 : Int32)) = ((v4 + (a * (w.2.2.1 0 ((76 : Int32) + v3).toNatClampNeg))) - (v4 + (a * (w.2.2.1 0 ((76 : Int32) + v3).toNatClampNeg))) / (30 : Int32) * (30 : Int32)) then (some (.inr (.inr a))) else (some (.inl (a + (1 : Int32)))))))
set_option maxHeartbeats 1000000 in
theorem wX2_meet_B24 {p : Program} {l : Launch} {e : Env} {s : State} {m : MethodId} {args : Array Value} {below : List Frame} {meth : Method} {c : Code} {E : ME} {Q : State → Prop} (k : Nat) (v1 : Int32) (v2 : Int32) (v3 : Int32) (v4 : Int32) (w : MS) (hC : mC E cX2_meet 6 (some .int) p s m args meth c) (a : Int32) (y : Int32 ⊕ (Unit ⊕ Int32)) (hE : fX2_meet_B24 k v1 v2 v3 v4 w a = some y) (hc : ∀ a : Int32, y = .inl a → mW p l e rmX2_meet s m args below meth c E 6 Q 24 [(0, .ref (E.2.2.2.1 0)), (1, .int v1), (2, .int v2), (3, .int v3), (4, .int v4), (5, .int a)] [] w) (hx1 : ∀ b : Unit, y = .inr (.inl b) → mW p l e rmX2_meet s m args below meth c E 6 Q 78 [] [] w) (hx2 : ∀ b : Int32, y = .inr (.inr b) → mW p l e rmX2_meet s m args below meth c E 6 Q 69 [(5, .int b)] [] w) : mW p l e rmX2_meet s m args below meth c E 6 Q 24 [(0, .ref (E.2.2.2.1 0)), (1, .int v1), (2, .int v2), (3, .int v3), (4, .int v4), (5, .int a)] [] w := by
  intro H locs ls hP hS hl
  have hx := hC.1
  have hb := hC.2.1
  have hown := hC.2.2.2.2.2.1
  have hts := hC.2.2.2.2.2.2.1
  unfold fX2_meet_B24 at hE
  refine lv_iload hx hb dX2_meet_24 (lv_at hl 5 rfl) ?_
  refine lv_bipush (v := 30) hx hb dX2_meet_26 (by decide) ?_
  refine lv_icmp_ge (tgt := 78) hx hb dX2_meet_28 (by decide) (fun c_5 => ?_) (fun c_5 => ?_)
  · have hE := ip c_5 hE
    exact hx1 _ (Option.some.inj hE).symm H locs ls hP hS (lv_sub hl [] rfl)
  · have hE := iq c_5 hE
    refine lv_iload_n hx hb dX2_meet_31 rfl (lv_at hl 2 rfl) ?_
    refine lv_iload hx hb dX2_meet_32 (lv_at hl 5 rfl) ?_
    refine lv_aload_n hx hb dX2_meet_34 rfl (lv_at hl 0 rfl) ?_
    refine gM_7 hC hP dX2_meet_35 ?_
    refine lv_bipush (v := 76) hx hb dX2_meet_38 (by decide) ?_
    refine lv_iload_n hx hb dX2_meet_40 rfl (lv_at hl 1 rfl) ?_
    refine lv_iadd hx hb dX2_meet_41 ?_
    obtain ⟨c_6, hE⟩ := og hE
    refine aM_0 hC hP c_6 dX2_meet_42 ?_
    refine lv_imul hx hb dX2_meet_43 ?_
    refine lv_iadd hx hb dX2_meet_44 ?_
    refine lv_bipush (v := 30) hx hb dX2_meet_45 (by decide) ?_
    refine lv_irem hx hb dX2_meet_47 (by decide) ?_
    refine lv_iload hx hb dX2_meet_48 (lv_at hl 4 rfl) ?_
    refine lv_iload hx hb dX2_meet_50 (lv_at hl 5 rfl) ?_
    refine lv_aload_n hx hb dX2_meet_52 rfl (lv_at hl 0 rfl) ?_
    refine gM_7 hC hP dX2_meet_53 ?_
    refine lv_bipush (v := 76) hx hb dX2_meet_56 (by decide) ?_
    refine lv_iload_n hx hb dX2_meet_58 rfl (lv_at hl 3 rfl) ?_
    refine lv_iadd hx hb dX2_meet_59 ?_
    obtain ⟨c_7, hE⟩ := og hE
    refine aM_0 hC hP c_7 dX2_meet_60 ?_
    refine lv_imul hx hb dX2_meet_61 ?_
    refine lv_iadd hx hb dX2_meet_62 ?_
    refine lv_bipush (v := 30) hx hb dX2_meet_63 (by decide) ?_
    refine lv_irem hx hb dX2_meet_65 (by decide) ?_
    refine lv_icmp_ne (tgt := 72) hx hb dX2_meet_66 (by decide) (fun c_8 => ?_) (fun c_8 => ?_)
    · have hE := iq c_8 hE
      refine lv_iinc (v := (a + (1 : Int32))) (lv' := [(5, .int (a + (1 : Int32))), (0, .ref (E.2.2.2.1 0)), (1, .int v1), (2, .int v2), (3, .int v3), (4, .int v4)]) hx hb dX2_meet_72 hl (k := 5) rfl rfl (Nat.le_of_ble_eq_true rfl) rfl (fun ls hl => ?_)
      refine lv_goto (tgt := 24) hx hb dX2_meet_75 (by decide) ?_
      exact hc _ (Option.some.inj hE).symm H locs ls hP hS (lv_sub hl [1, 2, 3, 4, 5, 0] rfl)
    · have hE := ip c_8 hE
      exact hx2 _ (Option.some.inj hE).symm H locs ls hP hS (lv_sub hl [5] rfl)
def fX2_meet (k : Nat) (z : MS) (x1 : Int32) (x2 : Int32) (x3 : Int32) (x4 : Int32) : Option Int32 := (fX2_areRunning z x1 x2).bind fun r_1 => if r_1 = 0 then (some (-1 : Int32)) else ((fX2_areRunning z x3 x4).bind fun r_3 => if r_3 = 0 then (some (-1 : Int32)) else ((lpo (fX2_meet_B24 k x1 x2 x3 x4 z) k (0 : Int32)).bind fun x_9 => (Sum.elim (fun t_9 : Unit => some (-1 : Int32)) (fun t_9 : Int32 => some t_9)) x_9))
set_option maxHeartbeats 1000000 in
theorem wX2_meet {l : Launch} {E : ME} (k : Nat) (z : MS) (x1 : Int32) (x2 : Int32) (x3 : Int32) (x4 : Int32) (y : Int32) (hE : fX2_meet k z x1 x2 x3 x4 = some y) : mM l yX2_meet (ws_ yX2_meet cX2_meet 6 (some .int)) rmX2_meet E z [.int x1, .int x2, .int x3, .int x4] (some (.int y)) z := by
  refine m_met (by decide) rfl (Nat.le_of_ble_eq_true rfl) (fun p e s m args below meth c hC => ?_)
  intro H locs ls hP hS hl
  have hx := hC.1
  have hb := hC.2.1
  have hown := hC.2.2.2.2.2.1
  have hts := hC.2.2.2.2.2.2.1
  have hl : lv_has ls 6 [(0, .ref (E.2.2.2.1 0)), (1, .int x1), (2, .int x2), (3, .int x3), (4, .int x4)] := hl
  unfold fX2_meet at hE
  refine lv_aload_n hx hb dX2_meet_0 rfl (lv_at hl 0 rfl) ?_
  refine lv_iload_n hx hb dX2_meet_1 rfl (lv_at hl 1 rfl) ?_
  refine lv_iload_n hx hb dX2_meet_2 rfl (lv_at hl 2 rfl) ?_
  obtain ⟨r_1, h_1, hE⟩ := ob hE
  refine m_calli [.int x1, .int x2] hC hP hS hl.1 (wX2_areRunning z x1 x2 r_1 h_1) (cwV 2 hts lkX2_387 rfl rfl rfl cdX2_areRunning ⟨Nat.le_of_ble_eq_true rfl, Nat.le_of_ble_eq_true rfl⟩) rfl rfl (lv_room (Nat.le_of_ble_eq_true rfl)) dX2_meet_3 (fun H locs hP hS => ?_)
  refine lv_if_eq (tgt := 19) hx hb dX2_meet_6 (by decide) (fun c_2 => ?_) (fun c_2 => ?_)
  · have hE := ip c_2 hE
    refine lv_iconst (v := -1) hx hb dX2_meet_19 (by decide) ?_
    obtain rfl := Option.some.inj hE
    exact m_iret hC hP hS dX2_meet_20
  · have hE := iq c_2 hE
    refine lv_aload_n hx hb dX2_meet_9 rfl (lv_at hl 0 rfl) ?_
    refine lv_iload_n hx hb dX2_meet_10 rfl (lv_at hl 3 rfl) ?_
    refine lv_iload hx hb dX2_meet_11 (lv_at hl 4 rfl) ?_
    obtain ⟨r_3, h_3, hE⟩ := ob hE
    refine m_calli [.int x3, .int x4] hC hP hS hl.1 (wX2_areRunning z x3 x4 r_3 h_3) (cwV 2 hts lkX2_387 rfl rfl rfl cdX2_areRunning ⟨Nat.le_of_ble_eq_true rfl, Nat.le_of_ble_eq_true rfl⟩) rfl rfl (lv_room (Nat.le_of_ble_eq_true rfl)) dX2_meet_13 (fun H locs hP hS => ?_)
    refine lv_if_ne (tgt := 21) hx hb dX2_meet_16 (by decide) (fun c_4 => ?_) (fun c_4 => ?_)
    · have hE := iq c_4 hE
      refine lv_iconst (v := 0) hx hb dX2_meet_21 (by decide) ?_
      refine lv_istore (lv' := [(5, .int (0 : Int32)), (0, .ref (E.2.2.2.1 0)), (1, .int x1), (2, .int x2), (3, .int x3), (4, .int x4)]) hx hb dX2_meet_22 hl (Nat.le_of_ble_eq_true rfl) rfl (fun ls hl => ?_)
      obtain ⟨x_9, h_9, hE⟩ := ob hE
      refine lpo_walk (fun p_9 : Int32 => mW p l e rmX2_meet s m args below meth c E 6 (mQ E below args s (some (.int y)) z) 24 [(0, .ref (E.2.2.2.1 0)), (1, .int x1), (2, .int x2), (3, .int x3), (4, .int x4), (5, .int p_9)] [] z) (fun q_9 : (Unit ⊕ Int32) => (∀ t_9 : Unit, q_9 = (.inl t_9) → mW p l e rmX2_meet s m args below meth c E 6 (mQ E below args s (some (.int y)) z) 78 [] [] z) ∧ (∀ t_9 : Int32, q_9 = (.inr t_9) → mW p l e rmX2_meet s m args below meth c E 6 (mQ E below args s (some (.int y)) z) 69 [(5, .int t_9)] [] z)) (fun a_9 y_9 hB_9 hc_9 hx_9 => wX2_meet_B24 k x1 x2 x3 x4 z hC a_9 y_9 hB_9 hc_9 (fun t_9 e_9 => (hx_9 _ e_9).1 t_9 rfl) (fun t_9 e_9 => (hx_9 _ e_9).2 t_9 rfl)) _ _ x_9 h_9 ?_ H locs ls hP hS (lv_sub hl [1, 2, 3, 4, 5, 0] rfl)
      refine ⟨?_, ?_⟩
      · intro t_9 e_9
        subst e_9
        have hE := oel hE
        intro H locs ls hP hS hl
        refine lv_iconst (v := -1) hx hb dX2_meet_78 (by decide) ?_
        obtain rfl := Option.some.inj hE
        exact m_iret hC hP hS dX2_meet_79
      · intro t_9 e_9
        subst e_9
        have hE := oer hE
        intro H locs ls hP hS hl
        refine lv_iload hx hb dX2_meet_69 (lv_at hl 0 rfl) ?_
        obtain rfl := Option.some.inj hE
        exact m_iret hC hP hS dX2_meet_71
    · have hE := ip c_4 hE
      refine lv_iconst (v := -1) hx hb dX2_meet_19 (by decide) ?_
      obtain rfl := Option.some.inj hE
      exact m_iret hC hP hS dX2_meet_20
def fX2_isTurn_B2 (k : Nat) (v1 : Int32) (w : MS) (a : Int32) : Option (Int32 ⊕ (Unit ⊕ Unit)) := if (30 : Int32) ≤ a then (some (.inr (.inl ()))) else (if ib ((9 : Int32) + a) 3205 then none else (if ib ((9 : Int32) + ((a + v1) - (a + v1) / (30 : Int32) * (30 : Int32))) 3205 then none else (if (w.2.2.1 0 ((9 : Int32) + a).toNatClampNeg) = (w.2.2.1 0 ((9 : Int32) + ((a + v1) - (a + v1) / (30 : Int32) * (30 : Int32))).toNatClampNeg) then (some (.inl (a + (1 : Int32)))) else (some (.inr (.inr ()))))))
set_option maxHeartbeats 1000000 in
theorem wX2_isTurn_B2 {p : Program} {l : Launch} {e : Env} {s : State} {m : MethodId} {args : Array Value} {below : List Frame} {meth : Method} {c : Code} {E : ME} {Q : State → Prop} (k : Nat) (v1 : Int32) (w : MS) (hC : mC E cX2_isTurn 3 (some .boolean) p s m args meth c) (a : Int32) (y : Int32 ⊕ (Unit ⊕ Unit)) (hE : fX2_isTurn_B2 k v1 w a = some y) (hc : ∀ a : Int32, y = .inl a → mW p l e rmX2_isTurn s m args below meth c E 3 Q 2 [(0, .ref (E.2.2.2.1 0)), (1, .int v1), (2, .int a)] [] w) (hx1 : ∀ b : Unit, y = .inr (.inl b) → mW p l e rmX2_isTurn s m args below meth c E 3 Q 42 [] [] w) (hx2 : ∀ b : Unit, y = .inr (.inr b) → mW p l e rmX2_isTurn s m args below meth c E 3 Q 34 [] [] w) : mW p l e rmX2_isTurn s m args below meth c E 3 Q 2 [(0, .ref (E.2.2.2.1 0)), (1, .int v1), (2, .int a)] [] w := by
  intro H locs ls hP hS hl
  have hx := hC.1
  have hb := hC.2.1
  have hown := hC.2.2.2.2.2.1
  have hts := hC.2.2.2.2.2.2.1
  unfold fX2_isTurn_B2 at hE
  refine lv_iload_n hx hb dX2_isTurn_2 rfl (lv_at hl 2 rfl) ?_
  refine lv_bipush (v := 30) hx hb dX2_isTurn_3 (by decide) ?_
  refine lv_icmp_ge (tgt := 42) hx hb dX2_isTurn_5 (by decide) (fun c_1 => ?_) (fun c_1 => ?_)
  · have hE := ip c_1 hE
    exact hx1 _ (Option.some.inj hE).symm H locs ls hP hS (lv_sub hl [] rfl)
  · have hE := iq c_1 hE
    refine lv_aload_n hx hb dX2_isTurn_8 rfl (lv_at hl 0 rfl) ?_
    refine gM_7 hC hP dX2_isTurn_9 ?_
    refine lv_bipush (v := 9) hx hb dX2_isTurn_12 (by decide) ?_
    refine lv_iload_n hx hb dX2_isTurn_14 rfl (lv_at hl 2 rfl) ?_
    refine lv_iadd hx hb dX2_isTurn_15 ?_
    obtain ⟨c_2, hE⟩ := og hE
    refine aM_0 hC hP c_2 dX2_isTurn_16 ?_
    refine lv_aload_n hx hb dX2_isTurn_17 rfl (lv_at hl 0 rfl) ?_
    refine gM_7 hC hP dX2_isTurn_18 ?_
    refine lv_bipush (v := 9) hx hb dX2_isTurn_21 (by decide) ?_
    refine lv_iload_n hx hb dX2_isTurn_23 rfl (lv_at hl 2 rfl) ?_
    refine lv_iload_n hx hb dX2_isTurn_24 rfl (lv_at hl 1 rfl) ?_
    refine lv_iadd hx hb dX2_isTurn_25 ?_
    refine lv_bipush (v := 30) hx hb dX2_isTurn_26 (by decide) ?_
    refine lv_irem hx hb dX2_isTurn_28 (by decide) ?_
    refine lv_iadd hx hb dX2_isTurn_29 ?_
    obtain ⟨c_3, hE⟩ := og hE
    refine aM_0 hC hP c_3 dX2_isTurn_30 ?_
    refine lv_icmp_eq (tgt := 36) hx hb dX2_isTurn_31 (by decide) (fun c_4 => ?_) (fun c_4 => ?_)
    · have hE := ip c_4 hE
      refine lv_iinc (v := (a + (1 : Int32))) (lv' := [(2, .int (a + (1 : Int32))), (0, .ref (E.2.2.2.1 0)), (1, .int v1)]) hx hb dX2_isTurn_36 hl (k := 2) rfl rfl (Nat.le_of_ble_eq_true rfl) rfl (fun ls hl => ?_)
      refine lv_goto (tgt := 2) hx hb dX2_isTurn_39 (by decide) ?_
      exact hc _ (Option.some.inj hE).symm H locs ls hP hS (lv_sub hl [1, 2, 0] rfl)
    · have hE := iq c_4 hE
      exact hx2 _ (Option.some.inj hE).symm H locs ls hP hS (lv_sub hl [] rfl)
def fX2_isTurn (k : Nat) (z : MS) (x1 : Int32) : Option Int32 := (lpo (fX2_isTurn_B2 k x1 z) k (0 : Int32)).bind fun x_5 => (Sum.elim (fun t_5 : Unit => some (1 : Int32)) (fun t_5 : Unit => some (0 : Int32))) x_5
set_option maxHeartbeats 1000000 in
theorem wX2_isTurn {l : Launch} {E : ME} (k : Nat) (z : MS) (x1 : Int32) (y : Int32) (hE : fX2_isTurn k z x1 = some y) : mM l yX2_isTurn (ws_ yX2_isTurn cX2_isTurn 3 (some .boolean)) rmX2_isTurn E z [.int x1] (some (.int y)) z := by
  refine m_met (by decide) rfl (Nat.le_of_ble_eq_true rfl) (fun p e s m args below meth c hC => ?_)
  intro H locs ls hP hS hl
  have hx := hC.1
  have hb := hC.2.1
  have hown := hC.2.2.2.2.2.1
  have hts := hC.2.2.2.2.2.2.1
  have hl : lv_has ls 3 [(0, .ref (E.2.2.2.1 0)), (1, .int x1)] := hl
  unfold fX2_isTurn at hE
  refine lv_iconst (v := 0) hx hb dX2_isTurn_0 (by decide) ?_
  refine lv_istore_n (lv' := [(2, .int (0 : Int32)), (0, .ref (E.2.2.2.1 0)), (1, .int x1)]) hx hb dX2_isTurn_1 rfl hl (Nat.le_of_ble_eq_true rfl) rfl (fun ls hl => ?_)
  obtain ⟨x_5, h_5, hE⟩ := ob hE
  refine lpo_walk (fun p_5 : Int32 => mW p l e rmX2_isTurn s m args below meth c E 3 (mQ E below args s (some (.int y)) z) 2 [(0, .ref (E.2.2.2.1 0)), (1, .int x1), (2, .int p_5)] [] z) (fun q_5 : (Unit ⊕ Unit) => (∀ t_5 : Unit, q_5 = (.inl t_5) → mW p l e rmX2_isTurn s m args below meth c E 3 (mQ E below args s (some (.int y)) z) 42 [] [] z) ∧ (∀ t_5 : Unit, q_5 = (.inr t_5) → mW p l e rmX2_isTurn s m args below meth c E 3 (mQ E below args s (some (.int y)) z) 34 [] [] z)) (fun a_5 y_5 hB_5 hc_5 hx_5 => wX2_isTurn_B2 k x1 z hC a_5 y_5 hB_5 hc_5 (fun t_5 e_5 => (hx_5 _ e_5).1 t_5 rfl) (fun t_5 e_5 => (hx_5 _ e_5).2 t_5 rfl)) _ _ x_5 h_5 ?_ H locs ls hP hS (lv_sub hl [1, 2, 0] rfl)
  refine ⟨?_, ?_⟩
  · intro t_5 e_5
    subst e_5
    have hE := oel hE
    intro H locs ls hP hS hl
    refine lv_iconst (v := 1) hx hb dX2_isTurn_42 (by decide) ?_
    obtain rfl := Option.some.inj hE
    exact m_zret (v := (1 : Int32)) hC hP hS (by decide) dX2_isTurn_43
  · intro t_5 e_5
    subst e_5
    have hE := oer hE
    intro H locs ls hP hS hl
    refine lv_iconst (v := 0) hx hb dX2_isTurn_34 (by decide) ?_
    obtain rfl := Option.some.inj hE
    exact m_zret (v := (0 : Int32)) hC hP hS (by decide) dX2_isTurn_35
def fX2_period_B2 (k : Nat)  (w : MS) (a : Int32) : Option (Int32 ⊕ Int32) := (fX2_isTurn k w a).bind fun r_1 => if r_1 = 0 then (some (.inl (a + (1 : Int32)))) else (some (.inr a))
set_option maxHeartbeats 1000000 in
theorem wX2_period_B2 {p : Program} {l : Launch} {e : Env} {s : State} {m : MethodId} {args : Array Value} {below : List Frame} {meth : Method} {c : Code} {E : ME} {Q : State → Prop} (k : Nat)  (w : MS) (hC : mC E cX2_period 2 (some .int) p s m args meth c) (a : Int32) (y : Int32 ⊕ Int32) (hE : fX2_period_B2 k  w a = some y) (hc : ∀ a : Int32, y = .inl a → mW p l e rmX2_period s m args below meth c E 2 Q 2 [(0, .ref (E.2.2.2.1 0)), (1, .int a)] [] w) (hx1 : ∀ b : Int32, y = .inr b → mW p l e rmX2_period s m args below meth c E 2 Q 16 [(1, .int b)] [] w) : mW p l e rmX2_period s m args below meth c E 2 Q 2 [(0, .ref (E.2.2.2.1 0)), (1, .int a)] [] w := by
  intro H locs ls hP hS hl
  have hx := hC.1
  have hb := hC.2.1
  have hown := hC.2.2.2.2.2.1
  have hts := hC.2.2.2.2.2.2.1
  unfold fX2_period_B2 at hE
  refine lv_aload_n hx hb dX2_period_2 rfl (lv_at hl 0 rfl) ?_
  refine lv_iload_n hx hb dX2_period_3 rfl (lv_at hl 1 rfl) ?_
  obtain ⟨r_1, h_1, hE⟩ := ob hE
  refine m_calli [.int a] hC hP hS hl.1 (wX2_isTurn k w a r_1 h_1) (cwV 1 hts lkX2_422 rfl rfl rfl cdX2_isTurn ⟨Nat.le_of_ble_eq_true rfl, Nat.le_of_ble_eq_true rfl⟩) rfl rfl (lv_room (Nat.le_of_ble_eq_true rfl)) dX2_period_4 (fun H locs hP hS => ?_)
  refine lv_if_ne (tgt := 16) hx hb dX2_period_7 (by decide) (fun c_2 => ?_) (fun c_2 => ?_)
  · have hE := iq c_2 hE
    exact hx1 _ (Option.some.inj hE).symm H locs ls hP hS (lv_sub hl [1] rfl)
  · have hE := ip c_2 hE
    refine lv_iinc (v := (a + (1 : Int32))) (lv' := [(1, .int (a + (1 : Int32))), (0, .ref (E.2.2.2.1 0))]) hx hb dX2_period_10 hl (k := 1) rfl rfl (Nat.le_of_ble_eq_true rfl) rfl (fun ls hl => ?_)
    refine lv_goto (tgt := 2) hx hb dX2_period_13 (by decide) ?_
    exact hc _ (Option.some.inj hE).symm H locs ls hP hS (lv_sub hl [1, 0] rfl)
def fX2_period (k : Nat) (z : MS)  : Option Int32 := (lpo (fX2_period_B2 k  z) k (1 : Int32)).bind fun x_3 => some x_3
set_option maxHeartbeats 1000000 in
theorem wX2_period {l : Launch} {E : ME} (k : Nat) (z : MS)  (y : Int32) (hE : fX2_period k z  = some y) : mM l yX2_period (ws_ yX2_period cX2_period 2 (some .int)) rmX2_period E z [] (some (.int y)) z := by
  refine m_met (by decide) rfl (Nat.le_of_ble_eq_true rfl) (fun p e s m args below meth c hC => ?_)
  intro H locs ls hP hS hl
  have hx := hC.1
  have hb := hC.2.1
  have hown := hC.2.2.2.2.2.1
  have hts := hC.2.2.2.2.2.2.1
  have hl : lv_has ls 2 [(0, .ref (E.2.2.2.1 0))] := hl
  unfold fX2_period at hE
  refine lv_iconst (v := 1) hx hb dX2_period_0 (by decide) ?_
  refine lv_istore_n (lv' := [(1, .int (1 : Int32)), (0, .ref (E.2.2.2.1 0))]) hx hb dX2_period_1 rfl hl (Nat.le_of_ble_eq_true rfl) rfl (fun ls hl => ?_)
  obtain ⟨x_3, h_3, hE⟩ := ob hE
  refine lpo_walk (fun p_3 : Int32 => mW p l e rmX2_period s m args below meth c E 2 (mQ E below args s (some (.int y)) z) 2 [(0, .ref (E.2.2.2.1 0)), (1, .int p_3)] [] z) (fun q_3 : Int32 => mW p l e rmX2_period s m args below meth c E 2 (mQ E below args s (some (.int y)) z) 16 [(1, .int q_3)] [] z) (fun a_3 y_3 hB_3 hc_3 hx_3 => wX2_period_B2 k  z hC a_3 y_3 hB_3 hc_3 hx_3) _ _ x_3 h_3 ?_ H locs ls hP hS (lv_sub hl [1, 0] rfl)
  intro H locs ls hP hS hl
  refine lv_iload_n hx hb dX2_period_16 rfl (lv_at hl 0 rfl) ?_
  obtain rfl := Option.some.inj hE
  exact m_iret hC hP hS dX2_period_17
def fX2_isAhead_B2 (k : Nat) (v1 : Int32) (v2 : Int32) (w : MS) (a : Int32) : Option (Int32 ⊕ (Unit ⊕ (Int32 × Int32))) := if (30 : Int32) ≤ a then (some (.inr (.inl ()))) else (if ib ((9 : Int32) + ((v1 + a) - (v1 + a) / (30 : Int32) * (30 : Int32))) 3205 then none else (nm (w.2.2.1 0 ((9 : Int32) + ((v1 + a) - (v1 + a) / (30 : Int32) * (30 : Int32))).toNatClampNeg) fun v_3 => if ib ((9 : Int32) + ((v2 + a) - (v2 + a) / (30 : Int32) * (30 : Int32))) 3205 then none else (nm (w.2.2.1 0 ((9 : Int32) + ((v2 + a) - (v2 + a) / (30 : Int32) * (30 : Int32))).toNatClampNeg) fun v_5 => if v_3 = v_5 then (some (.inl (a + (1 : Int32)))) else (some (.inr (.inr (v_3, v_5)))))))
set_option maxHeartbeats 1000000 in
theorem wX2_isAhead_B2 {p : Program} {l : Launch} {e : Env} {s : State} {m : MethodId} {args : Array Value} {below : List Frame} {meth : Method} {c : Code} {E : ME} {Q : State → Prop} (k : Nat) (v1 : Int32) (v2 : Int32) (w : MS) (hC : mC E cX2_isAhead 6 (some .boolean) p s m args meth c) (a : Int32) (y : Int32 ⊕ (Unit ⊕ (Int32 × Int32))) (hE : fX2_isAhead_B2 k v1 v2 w a = some y) (hc : ∀ a : Int32, y = .inl a → mW p l e rmX2_isAhead s m args below meth c E 6 Q 2 [(0, .ref (E.2.2.2.1 0)), (1, .int v1), (2, .int v2), (3, .int a)] [] w) (hx1 : ∀ b : Unit, y = .inr (.inl b) → mW p l e rmX2_isAhead s m args below meth c E 6 Q 66 [] [] w) (hx2 : ∀ b : Int32 × Int32, y = .inr (.inr b) → mW p l e rmX2_isAhead s m args below meth c E 6 Q 47 [(4, .int b.1), (5, .int b.2)] [] w) : mW p l e rmX2_isAhead s m args below meth c E 6 Q 2 [(0, .ref (E.2.2.2.1 0)), (1, .int v1), (2, .int v2), (3, .int a)] [] w := by
  intro H locs ls hP hS hl
  have hx := hC.1
  have hb := hC.2.1
  have hown := hC.2.2.2.2.2.1
  have hts := hC.2.2.2.2.2.2.1
  unfold fX2_isAhead_B2 at hE
  refine lv_iload_n hx hb dX2_isAhead_2 rfl (lv_at hl 3 rfl) ?_
  refine lv_bipush (v := 30) hx hb dX2_isAhead_3 (by decide) ?_
  refine lv_icmp_ge (tgt := 66) hx hb dX2_isAhead_5 (by decide) (fun c_1 => ?_) (fun c_1 => ?_)
  · have hE := ip c_1 hE
    exact hx1 _ (Option.some.inj hE).symm H locs ls hP hS (lv_sub hl [] rfl)
  · have hE := iq c_1 hE
    refine lv_aload_n hx hb dX2_isAhead_8 rfl (lv_at hl 0 rfl) ?_
    refine gM_7 hC hP dX2_isAhead_9 ?_
    refine lv_bipush (v := 9) hx hb dX2_isAhead_12 (by decide) ?_
    refine lv_iload_n hx hb dX2_isAhead_14 rfl (lv_at hl 1 rfl) ?_
    refine lv_iload_n hx hb dX2_isAhead_15 rfl (lv_at hl 3 rfl) ?_
    refine lv_iadd hx hb dX2_isAhead_16 ?_
    refine lv_bipush (v := 30) hx hb dX2_isAhead_17 (by decide) ?_
    refine lv_irem hx hb dX2_isAhead_19 (by decide) ?_
    refine lv_iadd hx hb dX2_isAhead_20 ?_
    obtain ⟨c_2, hE⟩ := og hE
    refine aM_0 hC hP c_2 dX2_isAhead_21 ?_
    refine nm_i hE (fun v_3 ev_3 hE => ?_)
    refine lv_istore (lv' := [(4, .int v_3), (0, .ref (E.2.2.2.1 0)), (1, .int v1), (2, .int v2), (3, .int a)]) hx hb dX2_isAhead_22 hl (Nat.le_of_ble_eq_true rfl) rfl (fun ls hl => ?_)
    refine lv_aload_n hx hb dX2_isAhead_24 rfl (lv_at hl 1 rfl) ?_
    refine gM_7 hC hP dX2_isAhead_25 ?_
    refine lv_bipush (v := 9) hx hb dX2_isAhead_28 (by decide) ?_
    refine lv_iload_n hx hb dX2_isAhead_30 rfl (lv_at hl 3 rfl) ?_
    refine lv_iload_n hx hb dX2_isAhead_31 rfl (lv_at hl 4 rfl) ?_
    refine lv_iadd hx hb dX2_isAhead_32 ?_
    refine lv_bipush (v := 30) hx hb dX2_isAhead_33 (by decide) ?_
    refine lv_irem hx hb dX2_isAhead_35 (by decide) ?_
    refine lv_iadd hx hb dX2_isAhead_36 ?_
    obtain ⟨c_4, hE⟩ := og hE
    refine aM_0 hC hP c_4 dX2_isAhead_37 ?_
    refine nm_i hE (fun v_5 ev_5 hE => ?_)
    refine lv_istore (lv' := [(5, .int v_5), (4, .int v_3), (0, .ref (E.2.2.2.1 0)), (1, .int v1), (2, .int v2), (3, .int a)]) hx hb dX2_isAhead_38 hl (Nat.le_of_ble_eq_true rfl) rfl (fun ls hl => ?_)
    refine lv_iload hx hb dX2_isAhead_40 (lv_at hl 1 rfl) ?_
    refine lv_iload hx hb dX2_isAhead_42 (lv_at hl 0 rfl) ?_
    refine lv_icmp_eq (tgt := 60) hx hb dX2_isAhead_44 (by decide) (fun c_6 => ?_) (fun c_6 => ?_)
    · have hE := ip c_6 hE
      refine lv_iinc (v := (a + (1 : Int32))) (lv' := [(3, .int (a + (1 : Int32))), (5, .int v_5), (4, .int v_3), (0, .ref (E.2.2.2.1 0)), (1, .int v1), (2, .int v2)]) hx hb dX2_isAhead_60 hl (k := 5) rfl rfl (Nat.le_of_ble_eq_true rfl) rfl (fun ls hl => ?_)
      refine lv_goto (tgt := 2) hx hb dX2_isAhead_63 (by decide) ?_
      exact hc _ (Option.some.inj hE).symm H locs ls hP hS (lv_sub hl [3, 4, 5, 0] rfl)
    · have hE := iq c_6 hE
      exact hx2 _ (Option.some.inj hE).symm H locs ls hP hS (lv_sub hl [1, 0] rfl)
def fX2_isAhead (k : Nat) (z : MS) (x1 : Int32) (x2 : Int32) : Option Int32 := (lpo (fX2_isAhead_B2 k x1 x2 z) k (0 : Int32)).bind fun x_7 => (Sum.elim (fun t_7 : Unit => some (0 : Int32)) (fun t_7 : Int32 × Int32 => if t_7.2 ≤ t_7.1 then (some (0 : Int32)) else (some (1 : Int32)))) x_7
set_option maxHeartbeats 1000000 in
theorem wX2_isAhead {l : Launch} {E : ME} (k : Nat) (z : MS) (x1 : Int32) (x2 : Int32) (y : Int32) (hE : fX2_isAhead k z x1 x2 = some y) : mM l yX2_isAhead (ws_ yX2_isAhead cX2_isAhead 6 (some .boolean)) rmX2_isAhead E z [.int x1, .int x2] (some (.int y)) z := by
  refine m_met (by decide) rfl (Nat.le_of_ble_eq_true rfl) (fun p e s m args below meth c hC => ?_)
  intro H locs ls hP hS hl
  have hx := hC.1
  have hb := hC.2.1
  have hown := hC.2.2.2.2.2.1
  have hts := hC.2.2.2.2.2.2.1
  have hl : lv_has ls 6 [(0, .ref (E.2.2.2.1 0)), (1, .int x1), (2, .int x2)] := hl
  unfold fX2_isAhead at hE
  refine lv_iconst (v := 0) hx hb dX2_isAhead_0 (by decide) ?_
  refine lv_istore_n (lv' := [(3, .int (0 : Int32)), (0, .ref (E.2.2.2.1 0)), (1, .int x1), (2, .int x2)]) hx hb dX2_isAhead_1 rfl hl (Nat.le_of_ble_eq_true rfl) rfl (fun ls hl => ?_)
  obtain ⟨x_7, h_7, hE⟩ := ob hE
  refine lpo_walk (fun p_7 : Int32 => mW p l e rmX2_isAhead s m args below meth c E 6 (mQ E below args s (some (.int y)) z) 2 [(0, .ref (E.2.2.2.1 0)), (1, .int x1), (2, .int x2), (3, .int p_7)] [] z) (fun q_7 : (Unit ⊕ (Int32 × Int32)) => (∀ t_7 : Unit, q_7 = (.inl t_7) → mW p l e rmX2_isAhead s m args below meth c E 6 (mQ E below args s (some (.int y)) z) 66 [] [] z) ∧ (∀ t_7 : Int32 × Int32, q_7 = (.inr t_7) → mW p l e rmX2_isAhead s m args below meth c E 6 (mQ E below args s (some (.int y)) z) 47 [(4, .int t_7.1), (5, .int t_7.2)] [] z)) (fun a_7 y_7 hB_7 hc_7 hx_7 => wX2_isAhead_B2 k x1 x2 z hC a_7 y_7 hB_7 hc_7 (fun t_7 e_7 => (hx_7 _ e_7).1 t_7 rfl) (fun t_7 e_7 => (hx_7 _ e_7).2 t_7 rfl)) _ _ x_7 h_7 ?_ H locs ls hP hS (lv_sub hl [1, 2, 3, 0] rfl)
  refine ⟨?_, ?_⟩
  · intro t_7 e_7
    subst e_7
    have hE := oel hE
    intro H locs ls hP hS hl
    refine lv_iconst (v := 0) hx hb dX2_isAhead_66 (by decide) ?_
    obtain rfl := Option.some.inj hE
    exact m_zret (v := (0 : Int32)) hC hP hS (by decide) dX2_isAhead_67
  · intro t_7 e_7
    subst e_7
    have hE := oer hE
    intro H locs ls hP hS hl
    refine lv_iload hx hb dX2_isAhead_47 (lv_at hl 0 rfl) ?_
    refine lv_iload hx hb dX2_isAhead_49 (lv_at hl 1 rfl) ?_
    refine lv_icmp_ge (tgt := 58) hx hb dX2_isAhead_51 (by decide) (fun c_8 => ?_) (fun c_8 => ?_)
    · have hE := ip c_8 hE
      refine lv_iconst (v := 0) hx hb dX2_isAhead_58 (by decide) ?_
      obtain rfl := Option.some.inj hE
      exact m_zret (v := (0 : Int32)) hC hP hS (by decide) dX2_isAhead_59
    · have hE := iq c_8 hE
      refine lv_iconst (v := 1) hx hb dX2_isAhead_54 (by decide) ?_
      refine lv_goto (tgt := 59) hx hb dX2_isAhead_55 (by decide) ?_
      obtain rfl := Option.some.inj hE
      exact m_zret (v := (1 : Int32)) hC hP hS (by decide) dX2_isAhead_59
def fX2_least_B4 (k : Nat)  (w : MS) (a : Int32 × Int32) : Option ((Int32 × Int32) ⊕ Int32) := if (30 : Int32) ≤ a.2 then (some (.inr a.1)) else ((fX2_isAhead k w a.2 a.1).bind fun r_2 => if r_2 = 0 then (some (.inl (a.1, (a.2 + (1 : Int32))))) else (some (.inl (a.2, (a.2 + (1 : Int32))))))
set_option maxHeartbeats 1000000 in
theorem wX2_least_B4 {p : Program} {l : Launch} {e : Env} {s : State} {m : MethodId} {args : Array Value} {below : List Frame} {meth : Method} {c : Code} {E : ME} {Q : State → Prop} (k : Nat)  (w : MS) (hC : mC E cX2_least 3 (some .int) p s m args meth c) (a : Int32 × Int32) (y : (Int32 × Int32) ⊕ Int32) (hE : fX2_least_B4 k  w a = some y) (hc : ∀ a : Int32 × Int32, y = .inl a → mW p l e rmX2_least s m args below meth c E 3 Q 4 [(0, .ref (E.2.2.2.1 0)), (1, .int a.1), (2, .int a.2)] [] w) (hx1 : ∀ b : Int32, y = .inr b → mW p l e rmX2_least s m args below meth c E 3 Q 27 [(1, .int b)] [] w) : mW p l e rmX2_least s m args below meth c E 3 Q 4 [(0, .ref (E.2.2.2.1 0)), (1, .int a.1), (2, .int a.2)] [] w := by
  intro H locs ls hP hS hl
  have hx := hC.1
  have hb := hC.2.1
  have hown := hC.2.2.2.2.2.1
  have hts := hC.2.2.2.2.2.2.1
  unfold fX2_least_B4 at hE
  refine lv_iload_n hx hb dX2_least_4 rfl (lv_at hl 2 rfl) ?_
  refine lv_bipush (v := 30) hx hb dX2_least_5 (by decide) ?_
  refine lv_icmp_ge (tgt := 27) hx hb dX2_least_7 (by decide) (fun c_1 => ?_) (fun c_1 => ?_)
  · have hE := ip c_1 hE
    exact hx1 _ (Option.some.inj hE).symm H locs ls hP hS (lv_sub hl [1] rfl)
  · have hE := iq c_1 hE
    refine lv_aload_n hx hb dX2_least_10 rfl (lv_at hl 0 rfl) ?_
    refine lv_iload_n hx hb dX2_least_11 rfl (lv_at hl 2 rfl) ?_
    refine lv_iload_n hx hb dX2_least_12 rfl (lv_at hl 1 rfl) ?_
    obtain ⟨r_2, h_2, hE⟩ := ob hE
    refine m_calli [.int a.2, .int a.1] hC hP hS hl.1 (wX2_isAhead k w a.2 a.1 r_2 h_2) (cwV 2 hts lkX2_425 rfl rfl rfl cdX2_isAhead ⟨Nat.le_of_ble_eq_true rfl, Nat.le_of_ble_eq_true rfl⟩) rfl rfl (lv_room (Nat.le_of_ble_eq_true rfl)) dX2_least_13 (fun H locs hP hS => ?_)
    refine lv_if_eq (tgt := 21) hx hb dX2_least_16 (by decide) (fun c_3 => ?_) (fun c_3 => ?_)
    · have hE := ip c_3 hE
      refine lv_iinc (v := (a.2 + (1 : Int32))) (lv' := [(2, .int (a.2 + (1 : Int32))), (0, .ref (E.2.2.2.1 0)), (1, .int a.1)]) hx hb dX2_least_21 hl (k := 2) rfl rfl (Nat.le_of_ble_eq_true rfl) rfl (fun ls hl => ?_)
      refine lv_goto (tgt := 4) hx hb dX2_least_24 (by decide) ?_
      exact hc _ (Option.some.inj hE).symm H locs ls hP hS (lv_sub hl [1, 2, 0] rfl)
    · have hE := iq c_3 hE
      refine lv_iload_n hx hb dX2_least_19 rfl (lv_at hl 2 rfl) ?_
      refine lv_istore_n (lv' := [(1, .int a.2), (0, .ref (E.2.2.2.1 0)), (2, .int a.2)]) hx hb dX2_least_20 rfl hl (Nat.le_of_ble_eq_true rfl) rfl (fun ls hl => ?_)
      refine lv_iinc (v := (a.2 + (1 : Int32))) (lv' := [(2, .int (a.2 + (1 : Int32))), (1, .int a.2), (0, .ref (E.2.2.2.1 0))]) hx hb dX2_least_21 hl (k := 2) rfl rfl (Nat.le_of_ble_eq_true rfl) rfl (fun ls hl => ?_)
      refine lv_goto (tgt := 4) hx hb dX2_least_24 (by decide) ?_
      exact hc _ (Option.some.inj hE).symm H locs ls hP hS (lv_sub hl [2, 1, 0] rfl)
def fX2_least (k : Nat) (z : MS)  : Option Int32 := (lpo (fX2_least_B4 k  z) k ((0 : Int32), (1 : Int32))).bind fun x_4 => some x_4
set_option maxHeartbeats 1000000 in
theorem wX2_least {l : Launch} {E : ME} (k : Nat) (z : MS)  (y : Int32) (hE : fX2_least k z  = some y) : mM l yX2_least (ws_ yX2_least cX2_least 3 (some .int)) rmX2_least E z [] (some (.int y)) z := by
  refine m_met (by decide) rfl (Nat.le_of_ble_eq_true rfl) (fun p e s m args below meth c hC => ?_)
  intro H locs ls hP hS hl
  have hx := hC.1
  have hb := hC.2.1
  have hown := hC.2.2.2.2.2.1
  have hts := hC.2.2.2.2.2.2.1
  have hl : lv_has ls 3 [(0, .ref (E.2.2.2.1 0))] := hl
  unfold fX2_least at hE
  refine lv_iconst (v := 0) hx hb dX2_least_0 (by decide) ?_
  refine lv_istore_n (lv' := [(1, .int (0 : Int32)), (0, .ref (E.2.2.2.1 0))]) hx hb dX2_least_1 rfl hl (Nat.le_of_ble_eq_true rfl) rfl (fun ls hl => ?_)
  refine lv_iconst (v := 1) hx hb dX2_least_2 (by decide) ?_
  refine lv_istore_n (lv' := [(2, .int (1 : Int32)), (1, .int (0 : Int32)), (0, .ref (E.2.2.2.1 0))]) hx hb dX2_least_3 rfl hl (Nat.le_of_ble_eq_true rfl) rfl (fun ls hl => ?_)
  obtain ⟨x_4, h_4, hE⟩ := ob hE
  refine lpo_walk (fun p_4 : Int32 × Int32 => mW p l e rmX2_least s m args below meth c E 3 (mQ E below args s (some (.int y)) z) 4 [(0, .ref (E.2.2.2.1 0)), (1, .int p_4.1), (2, .int p_4.2)] [] z) (fun q_4 : Int32 => mW p l e rmX2_least s m args below meth c E 3 (mQ E below args s (some (.int y)) z) 27 [(1, .int q_4)] [] z) (fun a_4 y_4 hB_4 hc_4 hx_4 => wX2_least_B4 k  z hC a_4 y_4 hB_4 hc_4 hx_4) _ _ x_4 h_4 ?_ H locs ls hP hS (lv_sub hl [2, 1, 0] rfl)
  intro H locs ls hP hS hl
  refine lv_iload_n hx hb dX2_least_27 rfl (lv_at hl 0 rfl) ?_
  obtain rfl := Option.some.inj hE
  exact m_iret hC hP hS dX2_least_28
def fX2_isMirror_B2 (k : Nat) (v1 : Int32) (w : MS) (a : Int32) : Option (Int32 ⊕ (Unit ⊕ Unit)) := if (30 : Int32) ≤ a then (some (.inr (.inl ()))) else (if ib ((9 : Int32) + a) 3205 then none else (if ib ((9 : Int32) + (((v1 - a) + (30 : Int32)) - ((v1 - a) + (30 : Int32)) / (30 : Int32) * (30 : Int32))) 3205 then none else (if (w.2.2.1 0 ((9 : Int32) + a).toNatClampNeg) = (w.2.2.1 0 ((9 : Int32) + (((v1 - a) + (30 : Int32)) - ((v1 - a) + (30 : Int32)) / (30 : Int32) * (30 : Int32))).toNatClampNeg) then (some (.inl (a + (1 : Int32)))) else (some (.inr (.inr ()))))))
set_option maxHeartbeats 1000000 in
theorem wX2_isMirror_B2 {p : Program} {l : Launch} {e : Env} {s : State} {m : MethodId} {args : Array Value} {below : List Frame} {meth : Method} {c : Code} {E : ME} {Q : State → Prop} (k : Nat) (v1 : Int32) (w : MS) (hC : mC E cX2_isMirror 3 (some .boolean) p s m args meth c) (a : Int32) (y : Int32 ⊕ (Unit ⊕ Unit)) (hE : fX2_isMirror_B2 k v1 w a = some y) (hc : ∀ a : Int32, y = .inl a → mW p l e rmX2_isMirror s m args below meth c E 3 Q 2 [(0, .ref (E.2.2.2.1 0)), (1, .int v1), (2, .int a)] [] w) (hx1 : ∀ b : Unit, y = .inr (.inl b) → mW p l e rmX2_isMirror s m args below meth c E 3 Q 45 [] [] w) (hx2 : ∀ b : Unit, y = .inr (.inr b) → mW p l e rmX2_isMirror s m args below meth c E 3 Q 37 [] [] w) : mW p l e rmX2_isMirror s m args below meth c E 3 Q 2 [(0, .ref (E.2.2.2.1 0)), (1, .int v1), (2, .int a)] [] w := by
  intro H locs ls hP hS hl
  have hx := hC.1
  have hb := hC.2.1
  have hown := hC.2.2.2.2.2.1
  have hts := hC.2.2.2.2.2.2.1
  unfold fX2_isMirror_B2 at hE
  refine lv_iload_n hx hb dX2_isMirror_2 rfl (lv_at hl 2 rfl) ?_
  refine lv_bipush (v := 30) hx hb dX2_isMirror_3 (by decide) ?_
  refine lv_icmp_ge (tgt := 45) hx hb dX2_isMirror_5 (by decide) (fun c_1 => ?_) (fun c_1 => ?_)
  · have hE := ip c_1 hE
    exact hx1 _ (Option.some.inj hE).symm H locs ls hP hS (lv_sub hl [] rfl)
  · have hE := iq c_1 hE
    refine lv_aload_n hx hb dX2_isMirror_8 rfl (lv_at hl 0 rfl) ?_
    refine gM_7 hC hP dX2_isMirror_9 ?_
    refine lv_bipush (v := 9) hx hb dX2_isMirror_12 (by decide) ?_
    refine lv_iload_n hx hb dX2_isMirror_14 rfl (lv_at hl 2 rfl) ?_
    refine lv_iadd hx hb dX2_isMirror_15 ?_
    obtain ⟨c_2, hE⟩ := og hE
    refine aM_0 hC hP c_2 dX2_isMirror_16 ?_
    refine lv_aload_n hx hb dX2_isMirror_17 rfl (lv_at hl 0 rfl) ?_
    refine gM_7 hC hP dX2_isMirror_18 ?_
    refine lv_bipush (v := 9) hx hb dX2_isMirror_21 (by decide) ?_
    refine lv_iload_n hx hb dX2_isMirror_23 rfl (lv_at hl 1 rfl) ?_
    refine lv_iload_n hx hb dX2_isMirror_24 rfl (lv_at hl 2 rfl) ?_
    refine lv_isub hx hb dX2_isMirror_25 ?_
    refine lv_bipush (v := 30) hx hb dX2_isMirror_26 (by decide) ?_
    refine lv_iadd hx hb dX2_isMirror_28 ?_
    refine lv_bipush (v := 30) hx hb dX2_isMirror_29 (by decide) ?_
    refine lv_irem hx hb dX2_isMirror_31 (by decide) ?_
    refine lv_iadd hx hb dX2_isMirror_32 ?_
    obtain ⟨c_3, hE⟩ := og hE
    refine aM_0 hC hP c_3 dX2_isMirror_33 ?_
    refine lv_icmp_eq (tgt := 39) hx hb dX2_isMirror_34 (by decide) (fun c_4 => ?_) (fun c_4 => ?_)
    · have hE := ip c_4 hE
      refine lv_iinc (v := (a + (1 : Int32))) (lv' := [(2, .int (a + (1 : Int32))), (0, .ref (E.2.2.2.1 0)), (1, .int v1)]) hx hb dX2_isMirror_39 hl (k := 2) rfl rfl (Nat.le_of_ble_eq_true rfl) rfl (fun ls hl => ?_)
      refine lv_goto (tgt := 2) hx hb dX2_isMirror_42 (by decide) ?_
      exact hc _ (Option.some.inj hE).symm H locs ls hP hS (lv_sub hl [1, 2, 0] rfl)
    · have hE := iq c_4 hE
      exact hx2 _ (Option.some.inj hE).symm H locs ls hP hS (lv_sub hl [] rfl)
def fX2_isMirror (k : Nat) (z : MS) (x1 : Int32) : Option Int32 := (lpo (fX2_isMirror_B2 k x1 z) k (0 : Int32)).bind fun x_5 => (Sum.elim (fun t_5 : Unit => some (1 : Int32)) (fun t_5 : Unit => some (0 : Int32))) x_5
set_option maxHeartbeats 1000000 in
theorem wX2_isMirror {l : Launch} {E : ME} (k : Nat) (z : MS) (x1 : Int32) (y : Int32) (hE : fX2_isMirror k z x1 = some y) : mM l yX2_isMirror (ws_ yX2_isMirror cX2_isMirror 3 (some .boolean)) rmX2_isMirror E z [.int x1] (some (.int y)) z := by
  refine m_met (by decide) rfl (Nat.le_of_ble_eq_true rfl) (fun p e s m args below meth c hC => ?_)
  intro H locs ls hP hS hl
  have hx := hC.1
  have hb := hC.2.1
  have hown := hC.2.2.2.2.2.1
  have hts := hC.2.2.2.2.2.2.1
  have hl : lv_has ls 3 [(0, .ref (E.2.2.2.1 0)), (1, .int x1)] := hl
  unfold fX2_isMirror at hE
  refine lv_iconst (v := 0) hx hb dX2_isMirror_0 (by decide) ?_
  refine lv_istore_n (lv' := [(2, .int (0 : Int32)), (0, .ref (E.2.2.2.1 0)), (1, .int x1)]) hx hb dX2_isMirror_1 rfl hl (Nat.le_of_ble_eq_true rfl) rfl (fun ls hl => ?_)
  obtain ⟨x_5, h_5, hE⟩ := ob hE
  refine lpo_walk (fun p_5 : Int32 => mW p l e rmX2_isMirror s m args below meth c E 3 (mQ E below args s (some (.int y)) z) 2 [(0, .ref (E.2.2.2.1 0)), (1, .int x1), (2, .int p_5)] [] z) (fun q_5 : (Unit ⊕ Unit) => (∀ t_5 : Unit, q_5 = (.inl t_5) → mW p l e rmX2_isMirror s m args below meth c E 3 (mQ E below args s (some (.int y)) z) 45 [] [] z) ∧ (∀ t_5 : Unit, q_5 = (.inr t_5) → mW p l e rmX2_isMirror s m args below meth c E 3 (mQ E below args s (some (.int y)) z) 37 [] [] z)) (fun a_5 y_5 hB_5 hc_5 hx_5 => wX2_isMirror_B2 k x1 z hC a_5 y_5 hB_5 hc_5 (fun t_5 e_5 => (hx_5 _ e_5).1 t_5 rfl) (fun t_5 e_5 => (hx_5 _ e_5).2 t_5 rfl)) _ _ x_5 h_5 ?_ H locs ls hP hS (lv_sub hl [1, 2, 0] rfl)
  refine ⟨?_, ?_⟩
  · intro t_5 e_5
    subst e_5
    have hE := oel hE
    intro H locs ls hP hS hl
    refine lv_iconst (v := 1) hx hb dX2_isMirror_45 (by decide) ?_
    obtain rfl := Option.some.inj hE
    exact m_zret (v := (1 : Int32)) hC hP hS (by decide) dX2_isMirror_46
  · intro t_5 e_5
    subst e_5
    have hE := oer hE
    intro H locs ls hP hS hl
    refine lv_iconst (v := 0) hx hb dX2_isMirror_37 (by decide) ?_
    obtain rfl := Option.some.inj hE
    exact m_zret (v := (0 : Int32)) hC hP hS (by decide) dX2_isMirror_38
def fX2_mirrors_B4 (k : Nat)  (w : MS) (a : Int32 × Int32) : Option ((Int32 × Int32) ⊕ Int32) := if (30 : Int32) ≤ a.2 then (some (.inr a.1)) else ((fX2_isMirror k w a.2).bind fun r_2 => if r_2 = 0 then (some (.inl ((a.1 + (0 : Int32)), (a.2 + (1 : Int32))))) else (some (.inl ((a.1 + (1 : Int32)), (a.2 + (1 : Int32))))))
set_option maxHeartbeats 1000000 in
theorem wX2_mirrors_B4 {p : Program} {l : Launch} {e : Env} {s : State} {m : MethodId} {args : Array Value} {below : List Frame} {meth : Method} {c : Code} {E : ME} {Q : State → Prop} (k : Nat)  (w : MS) (hC : mC E cX2_mirrors 3 (some .int) p s m args meth c) (a : Int32 × Int32) (y : (Int32 × Int32) ⊕ Int32) (hE : fX2_mirrors_B4 k  w a = some y) (hc : ∀ a : Int32 × Int32, y = .inl a → mW p l e rmX2_mirrors s m args below meth c E 3 Q 4 [(0, .ref (E.2.2.2.1 0)), (1, .int a.1), (2, .int a.2)] [] w) (hx1 : ∀ b : Int32, y = .inr b → mW p l e rmX2_mirrors s m args below meth c E 3 Q 32 [(1, .int b)] [] w) : mW p l e rmX2_mirrors s m args below meth c E 3 Q 4 [(0, .ref (E.2.2.2.1 0)), (1, .int a.1), (2, .int a.2)] [] w := by
  intro H locs ls hP hS hl
  have hx := hC.1
  have hb := hC.2.1
  have hown := hC.2.2.2.2.2.1
  have hts := hC.2.2.2.2.2.2.1
  unfold fX2_mirrors_B4 at hE
  refine lv_iload_n hx hb dX2_mirrors_4 rfl (lv_at hl 2 rfl) ?_
  refine lv_bipush (v := 30) hx hb dX2_mirrors_5 (by decide) ?_
  refine lv_icmp_ge (tgt := 32) hx hb dX2_mirrors_7 (by decide) (fun c_1 => ?_) (fun c_1 => ?_)
  · have hE := ip c_1 hE
    exact hx1 _ (Option.some.inj hE).symm H locs ls hP hS (lv_sub hl [1] rfl)
  · have hE := iq c_1 hE
    refine lv_iload_n hx hb dX2_mirrors_10 rfl (lv_at hl 1 rfl) ?_
    refine lv_aload_n hx hb dX2_mirrors_11 rfl (lv_at hl 0 rfl) ?_
    refine lv_iload_n hx hb dX2_mirrors_12 rfl (lv_at hl 2 rfl) ?_
    obtain ⟨r_2, h_2, hE⟩ := ob hE
    refine m_calli [.int a.2] hC hP hS hl.1 (wX2_isMirror k w a.2 r_2 h_2) (cwV 1 hts lkX2_428 rfl rfl rfl cdX2_isMirror ⟨Nat.le_of_ble_eq_true rfl, Nat.le_of_ble_eq_true rfl⟩) rfl rfl (lv_room (Nat.le_of_ble_eq_true rfl)) dX2_mirrors_13 (fun H locs hP hS => ?_)
    refine lv_if_eq (tgt := 23) hx hb dX2_mirrors_16 (by decide) (fun c_3 => ?_) (fun c_3 => ?_)
    · have hE := ip c_3 hE
      refine lv_iconst (v := 0) hx hb dX2_mirrors_23 (by decide) ?_
      refine lv_iadd hx hb dX2_mirrors_24 ?_
      refine lv_istore_n (lv' := [(1, .int (a.1 + (0 : Int32))), (0, .ref (E.2.2.2.1 0)), (2, .int a.2)]) hx hb dX2_mirrors_25 rfl hl (Nat.le_of_ble_eq_true rfl) rfl (fun ls hl => ?_)
      refine lv_iinc (v := (a.2 + (1 : Int32))) (lv' := [(2, .int (a.2 + (1 : Int32))), (1, .int (a.1 + (0 : Int32))), (0, .ref (E.2.2.2.1 0))]) hx hb dX2_mirrors_26 hl (k := 2) rfl rfl (Nat.le_of_ble_eq_true rfl) rfl (fun ls hl => ?_)
      refine lv_goto (tgt := 4) hx hb dX2_mirrors_29 (by decide) ?_
      exact hc _ (Option.some.inj hE).symm H locs ls hP hS (lv_sub hl [2, 1, 0] rfl)
    · have hE := iq c_3 hE
      refine lv_iconst (v := 1) hx hb dX2_mirrors_19 (by decide) ?_
      refine lv_goto (tgt := 24) hx hb dX2_mirrors_20 (by decide) ?_
      refine lv_iadd hx hb dX2_mirrors_24 ?_
      refine lv_istore_n (lv' := [(1, .int (a.1 + (1 : Int32))), (0, .ref (E.2.2.2.1 0)), (2, .int a.2)]) hx hb dX2_mirrors_25 rfl hl (Nat.le_of_ble_eq_true rfl) rfl (fun ls hl => ?_)
      refine lv_iinc (v := (a.2 + (1 : Int32))) (lv' := [(2, .int (a.2 + (1 : Int32))), (1, .int (a.1 + (1 : Int32))), (0, .ref (E.2.2.2.1 0))]) hx hb dX2_mirrors_26 hl (k := 2) rfl rfl (Nat.le_of_ble_eq_true rfl) rfl (fun ls hl => ?_)
      refine lv_goto (tgt := 4) hx hb dX2_mirrors_29 (by decide) ?_
      exact hc _ (Option.some.inj hE).symm H locs ls hP hS (lv_sub hl [2, 1, 0] rfl)
def fX2_mirrors (k : Nat) (z : MS)  : Option Int32 := (lpo (fX2_mirrors_B4 k  z) k ((0 : Int32), (0 : Int32))).bind fun x_4 => some x_4
set_option maxHeartbeats 1000000 in
theorem wX2_mirrors {l : Launch} {E : ME} (k : Nat) (z : MS)  (y : Int32) (hE : fX2_mirrors k z  = some y) : mM l yX2_mirrors (ws_ yX2_mirrors cX2_mirrors 3 (some .int)) rmX2_mirrors E z [] (some (.int y)) z := by
  refine m_met (by decide) rfl (Nat.le_of_ble_eq_true rfl) (fun p e s m args below meth c hC => ?_)
  intro H locs ls hP hS hl
  have hx := hC.1
  have hb := hC.2.1
  have hown := hC.2.2.2.2.2.1
  have hts := hC.2.2.2.2.2.2.1
  have hl : lv_has ls 3 [(0, .ref (E.2.2.2.1 0))] := hl
  unfold fX2_mirrors at hE
  refine lv_iconst (v := 0) hx hb dX2_mirrors_0 (by decide) ?_
  refine lv_istore_n (lv' := [(1, .int (0 : Int32)), (0, .ref (E.2.2.2.1 0))]) hx hb dX2_mirrors_1 rfl hl (Nat.le_of_ble_eq_true rfl) rfl (fun ls hl => ?_)
  refine lv_iconst (v := 0) hx hb dX2_mirrors_2 (by decide) ?_
  refine lv_istore_n (lv' := [(2, .int (0 : Int32)), (1, .int (0 : Int32)), (0, .ref (E.2.2.2.1 0))]) hx hb dX2_mirrors_3 rfl hl (Nat.le_of_ble_eq_true rfl) rfl (fun ls hl => ?_)
  obtain ⟨x_4, h_4, hE⟩ := ob hE
  refine lpo_walk (fun p_4 : Int32 × Int32 => mW p l e rmX2_mirrors s m args below meth c E 3 (mQ E below args s (some (.int y)) z) 4 [(0, .ref (E.2.2.2.1 0)), (1, .int p_4.1), (2, .int p_4.2)] [] z) (fun q_4 : Int32 => mW p l e rmX2_mirrors s m args below meth c E 3 (mQ E below args s (some (.int y)) z) 32 [(1, .int q_4)] [] z) (fun a_4 y_4 hB_4 hc_4 hx_4 => wX2_mirrors_B4 k  z hC a_4 y_4 hB_4 hc_4 hx_4) _ _ x_4 h_4 ?_ H locs ls hP hS (lv_sub hl [2, 1, 0] rfl)
  intro H locs ls hP hS hl
  refine lv_iload_n hx hb dX2_mirrors_32 rfl (lv_at hl 0 rfl) ?_
  obtain rfl := Option.some.inj hE
  exact m_iret hC hP hS dX2_mirrors_33
def fX2_longest_B30 (k : Nat) (v1 : Int32) (v2 : Int32) (v3 : Int32) (v4 : Int32) (v5 : Int32) (w : MS) (a : Int32) : Option (Int32 ⊕ Int32) := if (30 : Int32) ≤ a then (some (.inr a)) else (if ib ((9 : Int32) + ((v5 + a) - (v5 + a) / (30 : Int32) * (30 : Int32))) 3205 then none else (if (w.2.2.1 0 ((9 : Int32) + ((v5 + a) - (v5 + a) / (30 : Int32) * (30 : Int32))).toNatClampNeg) = v1 then (some (.inl (a + (1 : Int32)))) else (some (.inr a))))
set_option maxHeartbeats 1000000 in
theorem wX2_longest_B30 {p : Program} {l : Launch} {e : Env} {s : State} {m : MethodId} {args : Array Value} {below : List Frame} {meth : Method} {c : Code} {E : ME} {Q : State → Prop} (k : Nat) (v1 : Int32) (v2 : Int32) (v3 : Int32) (v4 : Int32) (v5 : Int32) (w : MS) (hC : mC E cX2_longest 7 (some .int) p s m args meth c) (a : Int32) (y : Int32 ⊕ Int32) (hE : fX2_longest_B30 k v1 v2 v3 v4 v5 w a = some y) (hc : ∀ a : Int32, y = .inl a → mW p l e rmX2_longest s m args below meth c E 7 Q 30 [(0, .ref (E.2.2.2.1 0)), (1, .int v1), (2, .int v2), (3, .int v3), (4, .int v4), (5, .int v5), (6, .int a)] [] w) (hx1 : ∀ b : Int32, y = .inr b → mW p l e rmX2_longest s m args below meth c E 7 Q 63 [(0, .ref (E.2.2.2.1 0)), (1, .int v1), (2, .int v2), (3, .int v3), (4, .int v4), (5, .int v5), (6, .int b)] [] w) : mW p l e rmX2_longest s m args below meth c E 7 Q 30 [(0, .ref (E.2.2.2.1 0)), (1, .int v1), (2, .int v2), (3, .int v3), (4, .int v4), (5, .int v5), (6, .int a)] [] w := by
  intro H locs ls hP hS hl
  have hx := hC.1
  have hb := hC.2.1
  have hown := hC.2.2.2.2.2.1
  have hts := hC.2.2.2.2.2.2.1
  unfold fX2_longest_B30 at hE
  refine lv_iload hx hb dX2_longest_30 (lv_at hl 6 rfl) ?_
  refine lv_bipush (v := 30) hx hb dX2_longest_32 (by decide) ?_
  refine lv_icmp_ge (tgt := 63) hx hb dX2_longest_34 (by decide) (fun c_4 => ?_) (fun c_4 => ?_)
  · have hE := ip c_4 hE
    exact hx1 _ (Option.some.inj hE).symm H locs ls hP hS hl
  · have hE := iq c_4 hE
    refine lv_aload_n hx hb dX2_longest_37 rfl (lv_at hl 0 rfl) ?_
    refine gM_7 hC hP dX2_longest_38 ?_
    refine lv_bipush (v := 9) hx hb dX2_longest_41 (by decide) ?_
    refine lv_iload hx hb dX2_longest_43 (lv_at hl 5 rfl) ?_
    refine lv_iload hx hb dX2_longest_45 (lv_at hl 6 rfl) ?_
    refine lv_iadd hx hb dX2_longest_47 ?_
    refine lv_bipush (v := 30) hx hb dX2_longest_48 (by decide) ?_
    refine lv_irem hx hb dX2_longest_50 (by decide) ?_
    refine lv_iadd hx hb dX2_longest_51 ?_
    obtain ⟨c_5, hE⟩ := og hE
    refine aM_0 hC hP c_5 dX2_longest_52 ?_
    refine lv_iload_n hx hb dX2_longest_53 rfl (lv_at hl 1 rfl) ?_
    refine lv_icmp_ne (tgt := 63) hx hb dX2_longest_54 (by decide) (fun c_6 => ?_) (fun c_6 => ?_)
    · have hE := iq c_6 hE
      exact hx1 _ (Option.some.inj hE).symm H locs ls hP hS hl
    · have hE := ip c_6 hE
      refine lv_iinc (v := (a + (1 : Int32))) (lv' := [(6, .int (a + (1 : Int32))), (0, .ref (E.2.2.2.1 0)), (1, .int v1), (2, .int v2), (3, .int v3), (4, .int v4), (5, .int v5)]) hx hb dX2_longest_57 hl (k := 6) rfl rfl (Nat.le_of_ble_eq_true rfl) rfl (fun ls hl => ?_)
      refine lv_goto (tgt := 30) hx hb dX2_longest_60 (by decide) ?_
      exact hc _ (Option.some.inj hE).symm H locs ls hP hS (lv_sub hl [1, 2, 3, 4, 5, 6, 0] rfl)
def fX2_longest_J63 (k : Nat) (w : MS) (v1 : Int32) (v2 : Int32) (x3 : Int32) (x4 : Int32) (x5 : Int32) (x6 : Int32) : Option ((Int32 × Int32 × Int32) ⊕ (Int32 × Int32)) := if x3 < x6 then (some (.inl (x6, x5, (x5 + (1 : Int32))))) else (some (.inl (x3, x4, (x5 + (1 : Int32)))))
set_option maxHeartbeats 1000000 in
theorem wX2_longest_J63 {p : Program} {l : Launch} {e : Env} {s : State} {m : MethodId} {args : Array Value} {below : List Frame} {meth : Method} {c : Code} {E : ME} {Q : State → Prop} (k : Nat) (w : MS) (v1 : Int32) (v2 : Int32) (x3 : Int32) (x4 : Int32) (x5 : Int32) (x6 : Int32) (hC : mC E cX2_longest 7 (some .int) p s m args meth c) (y : (Int32 × Int32 × Int32) ⊕ (Int32 × Int32)) (hE : fX2_longest_J63 k w v1 v2 x3 x4 x5 x6 = some y) (hc : ∀ a : Int32 × Int32 × Int32, y = .inl a → mW p l e rmX2_longest s m args below meth c E 7 Q 20 [(0, .ref (E.2.2.2.1 0)), (1, .int v1), (2, .int v2), (3, .int a.1), (4, .int a.2.1), (5, .int a.2.2)] [] w) (hx1 : ∀ b : Int32 × Int32, y = .inr b → mW p l e rmX2_longest s m args below meth c E 7 Q 85 [(2, .int v2), (3, .int b.1), (4, .int b.2)] [] w) : mW p l e rmX2_longest s m args below meth c E 7 Q 63 [(0, .ref (E.2.2.2.1 0)), (1, .int v1), (2, .int v2), (3, .int x3), (4, .int x4), (5, .int x5), (6, .int x6)] [] w := by
  intro H locs ls hP hS hl
  have hx := hC.1
  have hb := hC.2.1
  have hown := hC.2.2.2.2.2.1
  have hts := hC.2.2.2.2.2.2.1
  unfold fX2_longest_J63 at hE
  refine lv_iload hx hb dX2_longest_63 (lv_at hl 6 rfl) ?_
  refine lv_iload_n hx hb dX2_longest_65 rfl (lv_at hl 3 rfl) ?_
  refine lv_icmp_gt (tgt := 72) hx hb dX2_longest_66 (by decide) (fun c_8 => ?_) (fun c_8 => ?_)
  · have hE := ip c_8 hE
    refine lv_iload hx hb dX2_longest_72 (lv_at hl 6 rfl) ?_
    refine lv_istore_n (lv' := [(3, .int x6), (0, .ref (E.2.2.2.1 0)), (1, .int v1), (2, .int v2), (4, .int x4), (5, .int x5), (6, .int x6)]) hx hb dX2_longest_74 rfl hl (Nat.le_of_ble_eq_true rfl) rfl (fun ls hl => ?_)
    refine lv_iload hx hb dX2_longest_75 (lv_at hl 5 rfl) ?_
    refine lv_istore (lv' := [(4, .int x5), (3, .int x6), (0, .ref (E.2.2.2.1 0)), (1, .int v1), (2, .int v2), (5, .int x5), (6, .int x6)]) hx hb dX2_longest_77 hl (Nat.le_of_ble_eq_true rfl) rfl (fun ls hl => ?_)
    refine lv_iinc (v := (x5 + (1 : Int32))) (lv' := [(5, .int (x5 + (1 : Int32))), (4, .int x5), (3, .int x6), (0, .ref (E.2.2.2.1 0)), (1, .int v1), (2, .int v2), (6, .int x6)]) hx hb dX2_longest_79 hl (k := 5) rfl rfl (Nat.le_of_ble_eq_true rfl) rfl (fun ls hl => ?_)
    refine lv_goto (tgt := 20) hx hb dX2_longest_82 (by decide) ?_
    exact hc _ (Option.some.inj hE).symm H locs ls hP hS (lv_sub hl [3, 4, 5, 2, 1, 0] rfl)
  · have hE := iq c_8 hE
    refine lv_goto (tgt := 79) hx hb dX2_longest_69 (by decide) ?_
    refine lv_iinc (v := (x5 + (1 : Int32))) (lv' := [(5, .int (x5 + (1 : Int32))), (0, .ref (E.2.2.2.1 0)), (1, .int v1), (2, .int v2), (3, .int x3), (4, .int x4), (6, .int x6)]) hx hb dX2_longest_79 hl (k := 5) rfl rfl (Nat.le_of_ble_eq_true rfl) rfl (fun ls hl => ?_)
    refine lv_goto (tgt := 20) hx hb dX2_longest_82 (by decide) ?_
    exact hc _ (Option.some.inj hE).symm H locs ls hP hS (lv_sub hl [1, 2, 3, 4, 5, 0] rfl)
def fX2_longest_B20 (k : Nat) (v1 : Int32) (v2 : Int32) (w : MS) (a : Int32 × Int32 × Int32) : Option ((Int32 × Int32 × Int32) ⊕ (Int32 × Int32)) := if (30 : Int32) ≤ a.2.2 then (some (.inr (a.1, a.2.1))) else ((lpo (fX2_longest_B30 k v1 v2 a.1 a.2.1 a.2.2 w) k (0 : Int32)).bind fun x_7 => (fX2_longest_J63 k w v1 v2 a.1 a.2.1 a.2.2 x_7))
set_option maxHeartbeats 1000000 in
theorem wX2_longest_B20 {p : Program} {l : Launch} {e : Env} {s : State} {m : MethodId} {args : Array Value} {below : List Frame} {meth : Method} {c : Code} {E : ME} {Q : State → Prop} (k : Nat) (v1 : Int32) (v2 : Int32) (w : MS) (hC : mC E cX2_longest 7 (some .int) p s m args meth c) (a : Int32 × Int32 × Int32) (y : (Int32 × Int32 × Int32) ⊕ (Int32 × Int32)) (hE : fX2_longest_B20 k v1 v2 w a = some y) (hc : ∀ a : Int32 × Int32 × Int32, y = .inl a → mW p l e rmX2_longest s m args below meth c E 7 Q 20 [(0, .ref (E.2.2.2.1 0)), (1, .int v1), (2, .int v2), (3, .int a.1), (4, .int a.2.1), (5, .int a.2.2)] [] w) (hx1 : ∀ b : Int32 × Int32, y = .inr b → mW p l e rmX2_longest s m args below meth c E 7 Q 85 [(2, .int v2), (3, .int b.1), (4, .int b.2)] [] w) : mW p l e rmX2_longest s m args below meth c E 7 Q 20 [(0, .ref (E.2.2.2.1 0)), (1, .int v1), (2, .int v2), (3, .int a.1), (4, .int a.2.1), (5, .int a.2.2)] [] w := by
  intro H locs ls hP hS hl
  have hx := hC.1
  have hb := hC.2.1
  have hown := hC.2.2.2.2.2.1
  have hts := hC.2.2.2.2.2.2.1
  unfold fX2_longest_B20 at hE
  refine lv_iload hx hb dX2_longest_20 (lv_at hl 5 rfl) ?_
  refine lv_bipush (v := 30) hx hb dX2_longest_22 (by decide) ?_
  refine lv_icmp_ge (tgt := 85) hx hb dX2_longest_24 (by decide) (fun c_3 => ?_) (fun c_3 => ?_)
  · have hE := ip c_3 hE
    exact hx1 _ (Option.some.inj hE).symm H locs ls hP hS (lv_sub hl [2, 3, 4] rfl)
  · have hE := iq c_3 hE
    refine lv_iconst (v := 0) hx hb dX2_longest_27 (by decide) ?_
    refine lv_istore (lv' := [(6, .int (0 : Int32)), (0, .ref (E.2.2.2.1 0)), (1, .int v1), (2, .int v2), (3, .int a.1), (4, .int a.2.1), (5, .int a.2.2)]) hx hb dX2_longest_28 hl (Nat.le_of_ble_eq_true rfl) rfl (fun ls hl => ?_)
    obtain ⟨x_7, h_7, hE⟩ := ob hE
    refine lpo_walk (fun p_7 : Int32 => mW p l e rmX2_longest s m args below meth c E 7 Q 30 [(0, .ref (E.2.2.2.1 0)), (1, .int v1), (2, .int v2), (3, .int a.1), (4, .int a.2.1), (5, .int a.2.2), (6, .int p_7)] [] w) (fun q_7 : Int32 => mW p l e rmX2_longest s m args below meth c E 7 Q 63 [(0, .ref (E.2.2.2.1 0)), (1, .int v1), (2, .int v2), (3, .int a.1), (4, .int a.2.1), (5, .int a.2.2), (6, .int q_7)] [] w) (fun a_7 y_7 hB_7 hc_7 hx_7 => wX2_longest_B30 k v1 v2 a.1 a.2.1 a.2.2 w hC a_7 y_7 hB_7 hc_7 hx_7) _ _ x_7 h_7 ?_ H locs ls hP hS (lv_sub hl [1, 2, 3, 4, 5, 6, 0] rfl)
    intro H locs ls hP hS hl
    exact wX2_longest_J63 k w v1 v2 a.1 a.2.1 a.2.2 x_7 hC y hE hc hx1 H locs ls hP hS hl
def fX2_longest (k : Nat) (z : MS) (x1 : Int32) (x2 : Int32) : Option Int32 := (fX2_isIn x1 (0 : Int32) (3 : Int32)).bind fun r_1 => if r_1 = 0 then (some (-2 : Int32)) else ((lpo (fX2_longest_B20 k x1 x2 z) k ((0 : Int32), (-1 : Int32), (0 : Int32))).bind fun x_9 => if x2 = 0 then (some x_9.1) else (some x_9.2))
set_option maxHeartbeats 1000000 in
theorem wX2_longest {l : Launch} {E : ME} (k : Nat) (z : MS) (x1 : Int32) (x2 : Int32) (y : Int32) (hE : fX2_longest k z x1 x2 = some y) : mM l yX2_longest (ws_ yX2_longest cX2_longest 7 (some .int)) rmX2_longest E z [.int x1, .int x2] (some (.int y)) z := by
  refine m_met (by decide) rfl (Nat.le_of_ble_eq_true rfl) (fun p e s m args below meth c hC => ?_)
  intro H locs ls hP hS hl
  have hx := hC.1
  have hb := hC.2.1
  have hown := hC.2.2.2.2.2.1
  have hts := hC.2.2.2.2.2.2.1
  have hl : lv_has ls 7 [(0, .ref (E.2.2.2.1 0)), (1, .int x1), (2, .int x2)] := hl
  unfold fX2_longest at hE
  refine lv_iload_n hx hb dX2_longest_0 rfl (lv_at hl 1 rfl) ?_
  refine lv_iconst (v := 0) hx hb dX2_longest_1 (by decide) ?_
  refine lv_iconst (v := 3) hx hb dX2_longest_2 (by decide) ?_
  obtain ⟨r_1, h_1, hE⟩ := ob hE
  refine s_calli [.int x1, .int (0 : Int32), .int (3 : Int32)] hC.sC hl.1 (wX2_isIn x1 (0 : Int32) (3 : Int32) r_1 h_1) (va_cwS 3 hts lkX2_69 rfl rfl rfl cdX2_isIn ⟨Nat.le_of_ble_eq_true rfl, Nat.le_of_ble_eq_true rfl⟩) rfl rfl (lv_room (Nat.le_of_ble_eq_true rfl)) ⟨Nat.zero_le _, Nat.zero_le _⟩ dX2_longest_3 ?_
  refine lv_if_ne (tgt := 12) hx hb dX2_longest_6 (by decide) (fun c_2 => ?_) (fun c_2 => ?_)
  · have hE := iq c_2 hE
    refine lv_iconst (v := 0) hx hb dX2_longest_12 (by decide) ?_
    refine lv_istore_n (lv' := [(3, .int (0 : Int32)), (0, .ref (E.2.2.2.1 0)), (1, .int x1), (2, .int x2)]) hx hb dX2_longest_13 rfl hl (Nat.le_of_ble_eq_true rfl) rfl (fun ls hl => ?_)
    refine lv_iconst (v := -1) hx hb dX2_longest_14 (by decide) ?_
    refine lv_istore (lv' := [(4, .int (-1 : Int32)), (3, .int (0 : Int32)), (0, .ref (E.2.2.2.1 0)), (1, .int x1), (2, .int x2)]) hx hb dX2_longest_15 hl (Nat.le_of_ble_eq_true rfl) rfl (fun ls hl => ?_)
    refine lv_iconst (v := 0) hx hb dX2_longest_17 (by decide) ?_
    refine lv_istore (lv' := [(5, .int (0 : Int32)), (4, .int (-1 : Int32)), (3, .int (0 : Int32)), (0, .ref (E.2.2.2.1 0)), (1, .int x1), (2, .int x2)]) hx hb dX2_longest_18 hl (Nat.le_of_ble_eq_true rfl) rfl (fun ls hl => ?_)
    obtain ⟨x_9, h_9, hE⟩ := ob hE
    refine lpo_walk (fun p_9 : Int32 × Int32 × Int32 => mW p l e rmX2_longest s m args below meth c E 7 (mQ E below args s (some (.int y)) z) 20 [(0, .ref (E.2.2.2.1 0)), (1, .int x1), (2, .int x2), (3, .int p_9.1), (4, .int p_9.2.1), (5, .int p_9.2.2)] [] z) (fun q_9 : Int32 × Int32 => mW p l e rmX2_longest s m args below meth c E 7 (mQ E below args s (some (.int y)) z) 85 [(2, .int x2), (3, .int q_9.1), (4, .int q_9.2)] [] z) (fun a_9 y_9 hB_9 hc_9 hx_9 => wX2_longest_B20 k x1 x2 z hC a_9 y_9 hB_9 hc_9 hx_9) _ _ x_9 h_9 ?_ H locs ls hP hS (lv_sub hl [3, 4, 5, 2, 1, 0] rfl)
    intro H locs ls hP hS hl
    refine lv_iload_n hx hb dX2_longest_85 rfl (lv_at hl 0 rfl) ?_
    refine lv_if_eq (tgt := 94) hx hb dX2_longest_86 (by decide) (fun c_10 => ?_) (fun c_10 => ?_)
    · have hE := ip c_10 hE
      refine lv_iload_n hx hb dX2_longest_94 rfl (lv_at hl 1 rfl) ?_
      obtain rfl := Option.some.inj hE
      exact m_iret hC hP hS dX2_longest_95
    · have hE := iq c_10 hE
      refine lv_iload hx hb dX2_longest_89 (lv_at hl 2 rfl) ?_
      refine lv_goto (tgt := 95) hx hb dX2_longest_91 (by decide) ?_
      obtain rfl := Option.some.inj hE
      exact m_iret hC hP hS dX2_longest_95
  · have hE := ip c_2 hE
    refine lv_bipush (v := -2) hx hb dX2_longest_9 (by decide) ?_
    obtain rfl := Option.some.inj hE
    exact m_iret hC hP hS dX2_longest_11
def fX2_arc_B16 (k : Nat) (v1 : Int32) (w : MS) (a : Int32 × Int32) : Option ((Int32 × Int32) ⊕ Int32) := if (30 : Int32) ≤ a.2 then (some (.inr a.1)) else ((fX2_barsFrom k w a.2 v1).bind fun r_4 => (fX2_barsFrom k w a.1 v1).bind fun r_5 => if r_4 ≤ r_5 then (some (.inl (a.1, (a.2 + (1 : Int32))))) else (some (.inl (a.2, (a.2 + (1 : Int32))))))
set_option maxHeartbeats 1000000 in
theorem wX2_arc_B16 {p : Program} {l : Launch} {e : Env} {s : State} {m : MethodId} {args : Array Value} {below : List Frame} {meth : Method} {c : Code} {E : ME} {Q : State → Prop} (k : Nat) (v1 : Int32) (w : MS) (hC : mC E cX2_arc 4 (some .int) p s m args meth c) (a : Int32 × Int32) (y : (Int32 × Int32) ⊕ Int32) (hE : fX2_arc_B16 k v1 w a = some y) (hc : ∀ a : Int32 × Int32, y = .inl a → mW p l e rmX2_arc s m args below meth c E 4 Q 16 [(0, .ref (E.2.2.2.1 0)), (1, .int v1), (2, .int a.1), (3, .int a.2)] [] w) (hx1 : ∀ b : Int32, y = .inr b → mW p l e rmX2_arc s m args below meth c E 4 Q 45 [(2, .int b)] [] w) : mW p l e rmX2_arc s m args below meth c E 4 Q 16 [(0, .ref (E.2.2.2.1 0)), (1, .int v1), (2, .int a.1), (3, .int a.2)] [] w := by
  intro H locs ls hP hS hl
  have hx := hC.1
  have hb := hC.2.1
  have hown := hC.2.2.2.2.2.1
  have hts := hC.2.2.2.2.2.2.1
  unfold fX2_arc_B16 at hE
  refine lv_iload_n hx hb dX2_arc_16 rfl (lv_at hl 3 rfl) ?_
  refine lv_bipush (v := 30) hx hb dX2_arc_17 (by decide) ?_
  refine lv_icmp_ge (tgt := 45) hx hb dX2_arc_19 (by decide) (fun c_3 => ?_) (fun c_3 => ?_)
  · have hE := ip c_3 hE
    exact hx1 _ (Option.some.inj hE).symm H locs ls hP hS (lv_sub hl [2] rfl)
  · have hE := iq c_3 hE
    refine lv_aload_n hx hb dX2_arc_22 rfl (lv_at hl 0 rfl) ?_
    refine lv_iload_n hx hb dX2_arc_23 rfl (lv_at hl 3 rfl) ?_
    refine lv_iload_n hx hb dX2_arc_24 rfl (lv_at hl 1 rfl) ?_
    obtain ⟨r_4, h_4, hE⟩ := ob hE
    refine m_calli [.int a.2, .int v1] hC hP hS hl.1 (wX2_barsFrom k w a.2 v1 r_4 h_4) (cwV 2 hts lkX2_364 rfl rfl rfl cdX2_barsFrom ⟨Nat.le_of_ble_eq_true rfl, Nat.le_of_ble_eq_true rfl⟩) rfl rfl (lv_room (Nat.le_of_ble_eq_true rfl)) dX2_arc_25 (fun H locs hP hS => ?_)
    refine lv_aload_n hx hb dX2_arc_28 rfl (lv_at hl 0 rfl) ?_
    refine lv_iload_n hx hb dX2_arc_29 rfl (lv_at hl 2 rfl) ?_
    refine lv_iload_n hx hb dX2_arc_30 rfl (lv_at hl 1 rfl) ?_
    obtain ⟨r_5, h_5, hE⟩ := ob hE
    refine m_calli [.int a.1, .int v1] hC hP hS hl.1 (wX2_barsFrom k w a.1 v1 r_5 h_5) (cwV 2 hts lkX2_364 rfl rfl rfl cdX2_barsFrom ⟨Nat.le_of_ble_eq_true rfl, Nat.le_of_ble_eq_true rfl⟩) rfl rfl (lv_room (Nat.le_of_ble_eq_true rfl)) dX2_arc_31 (fun H locs hP hS => ?_)
    refine lv_icmp_le (tgt := 39) hx hb dX2_arc_34 (by decide) (fun c_6 => ?_) (fun c_6 => ?_)
    · have hE := ip c_6 hE
      refine lv_iinc (v := (a.2 + (1 : Int32))) (lv' := [(3, .int (a.2 + (1 : Int32))), (0, .ref (E.2.2.2.1 0)), (1, .int v1), (2, .int a.1)]) hx hb dX2_arc_39 hl (k := 3) rfl rfl (Nat.le_of_ble_eq_true rfl) rfl (fun ls hl => ?_)
      refine lv_goto (tgt := 16) hx hb dX2_arc_42 (by decide) ?_
      exact hc _ (Option.some.inj hE).symm H locs ls hP hS (lv_sub hl [1, 2, 3, 0] rfl)
    · have hE := iq c_6 hE
      refine lv_iload_n hx hb dX2_arc_37 rfl (lv_at hl 3 rfl) ?_
      refine lv_istore_n (lv' := [(2, .int a.2), (0, .ref (E.2.2.2.1 0)), (1, .int v1), (3, .int a.2)]) hx hb dX2_arc_38 rfl hl (Nat.le_of_ble_eq_true rfl) rfl (fun ls hl => ?_)
      refine lv_iinc (v := (a.2 + (1 : Int32))) (lv' := [(3, .int (a.2 + (1 : Int32))), (2, .int a.2), (0, .ref (E.2.2.2.1 0)), (1, .int v1)]) hx hb dX2_arc_39 hl (k := 3) rfl rfl (Nat.le_of_ble_eq_true rfl) rfl (fun ls hl => ?_)
      refine lv_goto (tgt := 16) hx hb dX2_arc_42 (by decide) ?_
      exact hc _ (Option.some.inj hE).symm H locs ls hP hS (lv_sub hl [2, 3, 1, 0] rfl)
def fX2_arc (k : Nat) (z : MS) (x1 : Int32) : Option Int32 := (fX2_isIn x1 (1 : Int32) (30 : Int32)).bind fun r_1 => if r_1 = 0 then (some (-1 : Int32)) else ((lpo (fX2_arc_B16 k x1 z) k ((0 : Int32), (1 : Int32))).bind fun x_7 => some x_7)
set_option maxHeartbeats 1000000 in
theorem wX2_arc {l : Launch} {E : ME} (k : Nat) (z : MS) (x1 : Int32) (y : Int32) (hE : fX2_arc k z x1 = some y) : mM l yX2_arc (ws_ yX2_arc cX2_arc 4 (some .int)) rmX2_arc E z [.int x1] (some (.int y)) z := by
  refine m_met (by decide) rfl (Nat.le_of_ble_eq_true rfl) (fun p e s m args below meth c hC => ?_)
  intro H locs ls hP hS hl
  have hx := hC.1
  have hb := hC.2.1
  have hown := hC.2.2.2.2.2.1
  have hts := hC.2.2.2.2.2.2.1
  have hl : lv_has ls 4 [(0, .ref (E.2.2.2.1 0)), (1, .int x1)] := hl
  unfold fX2_arc at hE
  refine lv_iload_n hx hb dX2_arc_0 rfl (lv_at hl 1 rfl) ?_
  refine lv_iconst (v := 1) hx hb dX2_arc_1 (by decide) ?_
  refine lv_bipush (v := 30) hx hb dX2_arc_2 (by decide) ?_
  obtain ⟨r_1, h_1, hE⟩ := ob hE
  refine s_calli [.int x1, .int (1 : Int32), .int (30 : Int32)] hC.sC hl.1 (wX2_isIn x1 (1 : Int32) (30 : Int32) r_1 h_1) (va_cwS 3 hts lkX2_69 rfl rfl rfl cdX2_isIn ⟨Nat.le_of_ble_eq_true rfl, Nat.le_of_ble_eq_true rfl⟩) rfl rfl (lv_room (Nat.le_of_ble_eq_true rfl)) ⟨Nat.zero_le _, Nat.zero_le _⟩ dX2_arc_4 ?_
  refine lv_if_ne (tgt := 12) hx hb dX2_arc_7 (by decide) (fun c_2 => ?_) (fun c_2 => ?_)
  · have hE := iq c_2 hE
    refine lv_iconst (v := 0) hx hb dX2_arc_12 (by decide) ?_
    refine lv_istore_n (lv' := [(2, .int (0 : Int32)), (0, .ref (E.2.2.2.1 0)), (1, .int x1)]) hx hb dX2_arc_13 rfl hl (Nat.le_of_ble_eq_true rfl) rfl (fun ls hl => ?_)
    refine lv_iconst (v := 1) hx hb dX2_arc_14 (by decide) ?_
    refine lv_istore_n (lv' := [(3, .int (1 : Int32)), (2, .int (0 : Int32)), (0, .ref (E.2.2.2.1 0)), (1, .int x1)]) hx hb dX2_arc_15 rfl hl (Nat.le_of_ble_eq_true rfl) rfl (fun ls hl => ?_)
    obtain ⟨x_7, h_7, hE⟩ := ob hE
    refine lpo_walk (fun p_7 : Int32 × Int32 => mW p l e rmX2_arc s m args below meth c E 4 (mQ E below args s (some (.int y)) z) 16 [(0, .ref (E.2.2.2.1 0)), (1, .int x1), (2, .int p_7.1), (3, .int p_7.2)] [] z) (fun q_7 : Int32 => mW p l e rmX2_arc s m args below meth c E 4 (mQ E below args s (some (.int y)) z) 45 [(2, .int q_7)] [] z) (fun a_7 y_7 hB_7 hc_7 hx_7 => wX2_arc_B16 k x1 z hC a_7 y_7 hB_7 hc_7 hx_7) _ _ x_7 h_7 ?_ H locs ls hP hS (lv_sub hl [2, 3, 1, 0] rfl)
    intro H locs ls hP hS hl
    refine lv_iload_n hx hb dX2_arc_45 rfl (lv_at hl 0 rfl) ?_
    obtain rfl := Option.some.inj hE
    exact m_iret hC hP hS dX2_arc_46
  · have hE := ip c_2 hE
    refine lv_iconst (v := -1) hx hb dX2_arc_10 (by decide) ?_
    obtain rfl := Option.some.inj hE
    exact m_iret hC hP hS dX2_arc_11
def fX2_quiet_B16 (k : Nat) (v1 : Int32) (w : MS) (a : Int32 × Int32) : Option ((Int32 × Int32) ⊕ Int32) := if (30 : Int32) ≤ a.2 then (some (.inr a.1)) else ((fX2_barsFrom k w a.2 v1).bind fun r_4 => if r_4 = 0 then (some (.inl ((a.1 + (1 : Int32)), (a.2 + (1 : Int32))))) else (some (.inl ((a.1 + (0 : Int32)), (a.2 + (1 : Int32))))))
set_option maxHeartbeats 1000000 in
theorem wX2_quiet_B16 {p : Program} {l : Launch} {e : Env} {s : State} {m : MethodId} {args : Array Value} {below : List Frame} {meth : Method} {c : Code} {E : ME} {Q : State → Prop} (k : Nat) (v1 : Int32) (w : MS) (hC : mC E cX2_quiet 4 (some .int) p s m args meth c) (a : Int32 × Int32) (y : (Int32 × Int32) ⊕ Int32) (hE : fX2_quiet_B16 k v1 w a = some y) (hc : ∀ a : Int32 × Int32, y = .inl a → mW p l e rmX2_quiet s m args below meth c E 4 Q 16 [(0, .ref (E.2.2.2.1 0)), (1, .int v1), (2, .int a.1), (3, .int a.2)] [] w) (hx1 : ∀ b : Int32, y = .inr b → mW p l e rmX2_quiet s m args below meth c E 4 Q 45 [(2, .int b)] [] w) : mW p l e rmX2_quiet s m args below meth c E 4 Q 16 [(0, .ref (E.2.2.2.1 0)), (1, .int v1), (2, .int a.1), (3, .int a.2)] [] w := by
  intro H locs ls hP hS hl
  have hx := hC.1
  have hb := hC.2.1
  have hown := hC.2.2.2.2.2.1
  have hts := hC.2.2.2.2.2.2.1
  unfold fX2_quiet_B16 at hE
  refine lv_iload_n hx hb dX2_quiet_16 rfl (lv_at hl 3 rfl) ?_
  refine lv_bipush (v := 30) hx hb dX2_quiet_17 (by decide) ?_
  refine lv_icmp_ge (tgt := 45) hx hb dX2_quiet_19 (by decide) (fun c_3 => ?_) (fun c_3 => ?_)
  · have hE := ip c_3 hE
    exact hx1 _ (Option.some.inj hE).symm H locs ls hP hS (lv_sub hl [2] rfl)
  · have hE := iq c_3 hE
    refine lv_iload_n hx hb dX2_quiet_22 rfl (lv_at hl 2 rfl) ?_
    refine lv_aload_n hx hb dX2_quiet_23 rfl (lv_at hl 0 rfl) ?_
    refine lv_iload_n hx hb dX2_quiet_24 rfl (lv_at hl 3 rfl) ?_
    refine lv_iload_n hx hb dX2_quiet_25 rfl (lv_at hl 1 rfl) ?_
    obtain ⟨r_4, h_4, hE⟩ := ob hE
    refine m_calli [.int a.2, .int v1] hC hP hS hl.1 (wX2_barsFrom k w a.2 v1 r_4 h_4) (cwV 2 hts lkX2_364 rfl rfl rfl cdX2_barsFrom ⟨Nat.le_of_ble_eq_true rfl, Nat.le_of_ble_eq_true rfl⟩) rfl rfl (lv_room (Nat.le_of_ble_eq_true rfl)) dX2_quiet_26 (fun H locs hP hS => ?_)
    refine lv_if_ne (tgt := 36) hx hb dX2_quiet_29 (by decide) (fun c_5 => ?_) (fun c_5 => ?_)
    · have hE := iq c_5 hE
      refine lv_iconst (v := 0) hx hb dX2_quiet_36 (by decide) ?_
      refine lv_iadd hx hb dX2_quiet_37 ?_
      refine lv_istore_n (lv' := [(2, .int (a.1 + (0 : Int32))), (0, .ref (E.2.2.2.1 0)), (1, .int v1), (3, .int a.2)]) hx hb dX2_quiet_38 rfl hl (Nat.le_of_ble_eq_true rfl) rfl (fun ls hl => ?_)
      refine lv_iinc (v := (a.2 + (1 : Int32))) (lv' := [(3, .int (a.2 + (1 : Int32))), (2, .int (a.1 + (0 : Int32))), (0, .ref (E.2.2.2.1 0)), (1, .int v1)]) hx hb dX2_quiet_39 hl (k := 3) rfl rfl (Nat.le_of_ble_eq_true rfl) rfl (fun ls hl => ?_)
      refine lv_goto (tgt := 16) hx hb dX2_quiet_42 (by decide) ?_
      exact hc _ (Option.some.inj hE).symm H locs ls hP hS (lv_sub hl [2, 3, 1, 0] rfl)
    · have hE := ip c_5 hE
      refine lv_iconst (v := 1) hx hb dX2_quiet_32 (by decide) ?_
      refine lv_goto (tgt := 37) hx hb dX2_quiet_33 (by decide) ?_
      refine lv_iadd hx hb dX2_quiet_37 ?_
      refine lv_istore_n (lv' := [(2, .int (a.1 + (1 : Int32))), (0, .ref (E.2.2.2.1 0)), (1, .int v1), (3, .int a.2)]) hx hb dX2_quiet_38 rfl hl (Nat.le_of_ble_eq_true rfl) rfl (fun ls hl => ?_)
      refine lv_iinc (v := (a.2 + (1 : Int32))) (lv' := [(3, .int (a.2 + (1 : Int32))), (2, .int (a.1 + (1 : Int32))), (0, .ref (E.2.2.2.1 0)), (1, .int v1)]) hx hb dX2_quiet_39 hl (k := 3) rfl rfl (Nat.le_of_ble_eq_true rfl) rfl (fun ls hl => ?_)
      refine lv_goto (tgt := 16) hx hb dX2_quiet_42 (by decide) ?_
      exact hc _ (Option.some.inj hE).symm H locs ls hP hS (lv_sub hl [2, 3, 1, 0] rfl)
def fX2_quiet (k : Nat) (z : MS) (x1 : Int32) : Option Int32 := (fX2_isIn x1 (1 : Int32) (30 : Int32)).bind fun r_1 => if r_1 = 0 then (some (-1 : Int32)) else ((lpo (fX2_quiet_B16 k x1 z) k ((0 : Int32), (0 : Int32))).bind fun x_6 => some x_6)
set_option maxHeartbeats 1000000 in
theorem wX2_quiet {l : Launch} {E : ME} (k : Nat) (z : MS) (x1 : Int32) (y : Int32) (hE : fX2_quiet k z x1 = some y) : mM l yX2_quiet (ws_ yX2_quiet cX2_quiet 4 (some .int)) rmX2_quiet E z [.int x1] (some (.int y)) z := by
  refine m_met (by decide) rfl (Nat.le_of_ble_eq_true rfl) (fun p e s m args below meth c hC => ?_)
  intro H locs ls hP hS hl
  have hx := hC.1
  have hb := hC.2.1
  have hown := hC.2.2.2.2.2.1
  have hts := hC.2.2.2.2.2.2.1
  have hl : lv_has ls 4 [(0, .ref (E.2.2.2.1 0)), (1, .int x1)] := hl
  unfold fX2_quiet at hE
  refine lv_iload_n hx hb dX2_quiet_0 rfl (lv_at hl 1 rfl) ?_
  refine lv_iconst (v := 1) hx hb dX2_quiet_1 (by decide) ?_
  refine lv_bipush (v := 30) hx hb dX2_quiet_2 (by decide) ?_
  obtain ⟨r_1, h_1, hE⟩ := ob hE
  refine s_calli [.int x1, .int (1 : Int32), .int (30 : Int32)] hC.sC hl.1 (wX2_isIn x1 (1 : Int32) (30 : Int32) r_1 h_1) (va_cwS 3 hts lkX2_69 rfl rfl rfl cdX2_isIn ⟨Nat.le_of_ble_eq_true rfl, Nat.le_of_ble_eq_true rfl⟩) rfl rfl (lv_room (Nat.le_of_ble_eq_true rfl)) ⟨Nat.zero_le _, Nat.zero_le _⟩ dX2_quiet_4 ?_
  refine lv_if_ne (tgt := 12) hx hb dX2_quiet_7 (by decide) (fun c_2 => ?_) (fun c_2 => ?_)
  · have hE := iq c_2 hE
    refine lv_iconst (v := 0) hx hb dX2_quiet_12 (by decide) ?_
    refine lv_istore_n (lv' := [(2, .int (0 : Int32)), (0, .ref (E.2.2.2.1 0)), (1, .int x1)]) hx hb dX2_quiet_13 rfl hl (Nat.le_of_ble_eq_true rfl) rfl (fun ls hl => ?_)
    refine lv_iconst (v := 0) hx hb dX2_quiet_14 (by decide) ?_
    refine lv_istore_n (lv' := [(3, .int (0 : Int32)), (2, .int (0 : Int32)), (0, .ref (E.2.2.2.1 0)), (1, .int x1)]) hx hb dX2_quiet_15 rfl hl (Nat.le_of_ble_eq_true rfl) rfl (fun ls hl => ?_)
    obtain ⟨x_6, h_6, hE⟩ := ob hE
    refine lpo_walk (fun p_6 : Int32 × Int32 => mW p l e rmX2_quiet s m args below meth c E 4 (mQ E below args s (some (.int y)) z) 16 [(0, .ref (E.2.2.2.1 0)), (1, .int x1), (2, .int p_6.1), (3, .int p_6.2)] [] z) (fun q_6 : Int32 => mW p l e rmX2_quiet s m args below meth c E 4 (mQ E below args s (some (.int y)) z) 45 [(2, .int q_6)] [] z) (fun a_6 y_6 hB_6 hc_6 hx_6 => wX2_quiet_B16 k x1 z hC a_6 y_6 hB_6 hc_6 hx_6) _ _ x_6 h_6 ?_ H locs ls hP hS (lv_sub hl [2, 3, 1, 0] rfl)
    intro H locs ls hP hS hl
    refine lv_iload_n hx hb dX2_quiet_45 rfl (lv_at hl 0 rfl) ?_
    obtain rfl := Option.some.inj hE
    exact m_iret hC hP hS dX2_quiet_46
  · have hE := ip c_2 hE
    refine lv_iconst (v := -1) hx hb dX2_quiet_10 (by decide) ?_
    obtain rfl := Option.some.inj hE
    exact m_iret hC hP hS dX2_quiet_11
def fX2_changed_B4 (k : Nat)  (w : MS) (a : Int32 × Int32) : Option ((Int32 × Int32) ⊕ Int32) := if (30 : Int32) ≤ a.2 then (some (.inr a.1)) else (if ib ((9 : Int32) + a.2) 3205 then none else (if ib ((9 : Int32) + a.2) 3205 then none else (if (w.2.2.1 0 ((9 : Int32) + a.2).toNatClampNeg) = (w.2.2.1 1 ((9 : Int32) + a.2).toNatClampNeg) then (some (.inl ((a.1 ||| (0 : Int32)), (a.2 + (1 : Int32))))) else (some (.inl ((a.1 ||| ((1 : Int32) <<< (a.2 &&& 31))), (a.2 + (1 : Int32))))))))
set_option maxHeartbeats 1000000 in
theorem wX2_changed_B4 {p : Program} {l : Launch} {e : Env} {s : State} {m : MethodId} {args : Array Value} {below : List Frame} {meth : Method} {c : Code} {E : ME} {Q : State → Prop} (k : Nat)  (w : MS) (hC : mC E cX2_changed 3 (some .int) p s m args meth c) (a : Int32 × Int32) (y : (Int32 × Int32) ⊕ Int32) (hE : fX2_changed_B4 k  w a = some y) (hc : ∀ a : Int32 × Int32, y = .inl a → mW p l e rmX2_changed s m args below meth c E 3 Q 4 [(0, .ref (E.2.2.2.1 0)), (1, .int a.1), (2, .int a.2)] [] w) (hx1 : ∀ b : Int32, y = .inr b → mW p l e rmX2_changed s m args below meth c E 3 Q 47 [(1, .int b)] [] w) : mW p l e rmX2_changed s m args below meth c E 3 Q 4 [(0, .ref (E.2.2.2.1 0)), (1, .int a.1), (2, .int a.2)] [] w := by
  intro H locs ls hP hS hl
  have hx := hC.1
  have hb := hC.2.1
  have hown := hC.2.2.2.2.2.1
  have hts := hC.2.2.2.2.2.2.1
  unfold fX2_changed_B4 at hE
  refine lv_iload_n hx hb dX2_changed_4 rfl (lv_at hl 2 rfl) ?_
  refine lv_bipush (v := 30) hx hb dX2_changed_5 (by decide) ?_
  refine lv_icmp_ge (tgt := 47) hx hb dX2_changed_7 (by decide) (fun c_1 => ?_) (fun c_1 => ?_)
  · have hE := ip c_1 hE
    exact hx1 _ (Option.some.inj hE).symm H locs ls hP hS (lv_sub hl [1] rfl)
  · have hE := iq c_1 hE
    refine lv_iload_n hx hb dX2_changed_10 rfl (lv_at hl 1 rfl) ?_
    refine lv_aload_n hx hb dX2_changed_11 rfl (lv_at hl 0 rfl) ?_
    refine gM_7 hC hP dX2_changed_12 ?_
    refine lv_bipush (v := 9) hx hb dX2_changed_15 (by decide) ?_
    refine lv_iload_n hx hb dX2_changed_17 rfl (lv_at hl 2 rfl) ?_
    refine lv_iadd hx hb dX2_changed_18 ?_
    obtain ⟨c_2, hE⟩ := og hE
    refine aM_0 hC hP c_2 dX2_changed_19 ?_
    refine lv_aload_n hx hb dX2_changed_20 rfl (lv_at hl 0 rfl) ?_
    refine gM_13 hC hP dX2_changed_21 ?_
    refine lv_bipush (v := 9) hx hb dX2_changed_24 (by decide) ?_
    refine lv_iload_n hx hb dX2_changed_26 rfl (lv_at hl 2 rfl) ?_
    refine lv_iadd hx hb dX2_changed_27 ?_
    obtain ⟨c_3, hE⟩ := og hE
    refine aM_1 hC hP c_3 dX2_changed_28 ?_
    refine lv_icmp_eq (tgt := 38) hx hb dX2_changed_29 (by decide) (fun c_4 => ?_) (fun c_4 => ?_)
    · have hE := ip c_4 hE
      refine lv_iconst (v := 0) hx hb dX2_changed_38 (by decide) ?_
      refine lv_ior hx hb dX2_changed_39 ?_
      refine lv_istore_n (lv' := [(1, .int (a.1 ||| (0 : Int32))), (0, .ref (E.2.2.2.1 0)), (2, .int a.2)]) hx hb dX2_changed_40 rfl hl (Nat.le_of_ble_eq_true rfl) rfl (fun ls hl => ?_)
      refine lv_iinc (v := (a.2 + (1 : Int32))) (lv' := [(2, .int (a.2 + (1 : Int32))), (1, .int (a.1 ||| (0 : Int32))), (0, .ref (E.2.2.2.1 0))]) hx hb dX2_changed_41 hl (k := 2) rfl rfl (Nat.le_of_ble_eq_true rfl) rfl (fun ls hl => ?_)
      refine lv_goto (tgt := 4) hx hb dX2_changed_44 (by decide) ?_
      exact hc _ (Option.some.inj hE).symm H locs ls hP hS (lv_sub hl [2, 1, 0] rfl)
    · have hE := iq c_4 hE
      refine lv_iconst (v := 1) hx hb dX2_changed_32 (by decide) ?_
      refine lv_iload_n hx hb dX2_changed_33 rfl (lv_at hl 2 rfl) ?_
      refine lv_ishl hx hb dX2_changed_34 ?_
      refine lv_goto (tgt := 39) hx hb dX2_changed_35 (by decide) ?_
      refine lv_ior hx hb dX2_changed_39 ?_
      refine lv_istore_n (lv' := [(1, .int (a.1 ||| ((1 : Int32) <<< (a.2 &&& 31)))), (0, .ref (E.2.2.2.1 0)), (2, .int a.2)]) hx hb dX2_changed_40 rfl hl (Nat.le_of_ble_eq_true rfl) rfl (fun ls hl => ?_)
      refine lv_iinc (v := (a.2 + (1 : Int32))) (lv' := [(2, .int (a.2 + (1 : Int32))), (1, .int (a.1 ||| ((1 : Int32) <<< (a.2 &&& 31)))), (0, .ref (E.2.2.2.1 0))]) hx hb dX2_changed_41 hl (k := 2) rfl rfl (Nat.le_of_ble_eq_true rfl) rfl (fun ls hl => ?_)
      refine lv_goto (tgt := 4) hx hb dX2_changed_44 (by decide) ?_
      exact hc _ (Option.some.inj hE).symm H locs ls hP hS (lv_sub hl [2, 1, 0] rfl)
def fX2_changed (k : Nat) (z : MS)  : Option Int32 := (lpo (fX2_changed_B4 k  z) k ((0 : Int32), (0 : Int32))).bind fun x_5 => some x_5
set_option maxHeartbeats 1000000 in
theorem wX2_changed {l : Launch} {E : ME} (k : Nat) (z : MS)  (y : Int32) (hE : fX2_changed k z  = some y) : mM l yX2_changed (ws_ yX2_changed cX2_changed 3 (some .int)) rmX2_changed E z [] (some (.int y)) z := by
  refine m_met (by decide) rfl (Nat.le_of_ble_eq_true rfl) (fun p e s m args below meth c hC => ?_)
  intro H locs ls hP hS hl
  have hx := hC.1
  have hb := hC.2.1
  have hown := hC.2.2.2.2.2.1
  have hts := hC.2.2.2.2.2.2.1
  have hl : lv_has ls 3 [(0, .ref (E.2.2.2.1 0))] := hl
  unfold fX2_changed at hE
  refine lv_iconst (v := 0) hx hb dX2_changed_0 (by decide) ?_
  refine lv_istore_n (lv' := [(1, .int (0 : Int32)), (0, .ref (E.2.2.2.1 0))]) hx hb dX2_changed_1 rfl hl (Nat.le_of_ble_eq_true rfl) rfl (fun ls hl => ?_)
  refine lv_iconst (v := 0) hx hb dX2_changed_2 (by decide) ?_
  refine lv_istore_n (lv' := [(2, .int (0 : Int32)), (1, .int (0 : Int32)), (0, .ref (E.2.2.2.1 0))]) hx hb dX2_changed_3 rfl hl (Nat.le_of_ble_eq_true rfl) rfl (fun ls hl => ?_)
  obtain ⟨x_5, h_5, hE⟩ := ob hE
  refine lpo_walk (fun p_5 : Int32 × Int32 => mW p l e rmX2_changed s m args below meth c E 3 (mQ E below args s (some (.int y)) z) 4 [(0, .ref (E.2.2.2.1 0)), (1, .int p_5.1), (2, .int p_5.2)] [] z) (fun q_5 : Int32 => mW p l e rmX2_changed s m args below meth c E 3 (mQ E below args s (some (.int y)) z) 47 [(1, .int q_5)] [] z) (fun a_5 y_5 hB_5 hc_5 hx_5 => wX2_changed_B4 k  z hC a_5 y_5 hB_5 hc_5 hx_5) _ _ x_5 h_5 ?_ H locs ls hP hS (lv_sub hl [2, 1, 0] rfl)
  intro H locs ls hP hS hl
  refine lv_iload_n hx hb dX2_changed_47 rfl (lv_at hl 0 rfl) ?_
  obtain rfl := Option.some.inj hE
  exact m_iret hC hP hS dX2_changed_48
def fX2_said (z : MS) (x1 : Int32) (x2 : Int32) (x3 : Int32) : Option (Int32 × MS) := if x1 = (-1 : Int32) then (nm (mA z 0 (upd (z.2.2.1 0) (5 : Int32).toNatClampNeg (0 : Int32))) fun z_16 => some ((0 : Int32), z_16)) else ((fX2_areRunning z x1 x2).bind fun r_2 => if r_2 = 0 then (some ((-2 : Int32), z)) else ((fX2_isIn x3 (0 : Int32) (10 : Int32)).bind fun r_4 => if r_4 = 0 then (some ((-2 : Int32), z)) else (if (z.2.2.1 0 (5 : Int32).toNatClampNeg) = (8 : Int32) then (some ((-2 : Int32), z)) else (nm ((121 : Int32) + ((3 : Int32) * (z.2.2.1 0 (5 : Int32).toNatClampNeg))) fun v_9 => if ib v_9 3205 then none else (nm (mA z 0 (upd (z.2.2.1 0) v_9.toNatClampNeg x1)) fun z_10 => if ib (v_9 + (1 : Int32)) 3205 then none else (nm (mA z_10 0 (upd (z_10.2.2.1 0) (v_9 + (1 : Int32)).toNatClampNeg x2)) fun z_11 => if ib (v_9 + (2 : Int32)) 3205 then none else (nm (mA z_11 0 (upd (z_11.2.2.1 0) (v_9 + (2 : Int32)).toNatClampNeg x3)) fun z_12 => nm (mA z_12 0 (upd (z_12.2.2.1 0) (5 : Int32).toNatClampNeg ((z_12.2.2.1 0 (5 : Int32).toNatClampNeg) + (1 : Int32)))) fun z_14 => some ((z_14.2.2.1 0 (5 : Int32).toNatClampNeg), z_14))))))))
set_option maxHeartbeats 1000000 in
theorem wX2_said {l : Launch} {E : ME} (z : MS) (x1 : Int32) (x2 : Int32) (x3 : Int32) (y : Int32 × MS) (hE : fX2_said z x1 x2 x3 = some y) : mM l yX2_said (ws_ yX2_said cX2_said 5 (some .int)) rmX2_said E z [.int x1, .int x2, .int x3] (some (.int y.1)) y.2 := by
  refine m_met (by decide) rfl (Nat.le_of_ble_eq_true rfl) (fun p e s m args below meth c hC => ?_)
  intro H locs ls hP hS hl
  have hx := hC.1
  have hb := hC.2.1
  have hown := hC.2.2.2.2.2.1
  have hts := hC.2.2.2.2.2.2.1
  have hl : lv_has ls 5 [(0, .ref (E.2.2.2.1 0)), (1, .int x1), (2, .int x2), (3, .int x3)] := hl
  unfold fX2_said at hE
  refine lv_iload_n hx hb dX2_said_0 rfl (lv_at hl 1 rfl) ?_
  refine lv_iconst (v := -1) hx hb dX2_said_1 (by decide) ?_
  refine lv_icmp_ne (tgt := 14) hx hb dX2_said_2 (by decide) (fun c_1 => ?_) (fun c_1 => ?_)
  · have hE := iq c_1 hE
    refine lv_aload_n hx hb dX2_said_14 rfl (lv_at hl 0 rfl) ?_
    refine lv_iload_n hx hb dX2_said_15 rfl (lv_at hl 1 rfl) ?_
    refine lv_iload_n hx hb dX2_said_16 rfl (lv_at hl 2 rfl) ?_
    obtain ⟨r_2, h_2, hE⟩ := ob hE
    refine m_calli [.int x1, .int x2] hC hP hS hl.1 (wX2_areRunning z x1 x2 r_2 h_2) (cwV 2 hts lkX2_387 rfl rfl rfl cdX2_areRunning ⟨Nat.le_of_ble_eq_true rfl, Nat.le_of_ble_eq_true rfl⟩) rfl rfl (lv_room (Nat.le_of_ble_eq_true rfl)) dX2_said_17 (fun H locs hP hS => ?_)
    refine lv_if_eq (tgt := 44) hx hb dX2_said_20 (by decide) (fun c_3 => ?_) (fun c_3 => ?_)
    · have hE := ip c_3 hE
      refine lv_bipush (v := -2) hx hb dX2_said_44 (by decide) ?_
      obtain rfl := Option.some.inj hE
      exact m_iret hC hP hS dX2_said_46
    · have hE := iq c_3 hE
      refine lv_iload_n hx hb dX2_said_23 rfl (lv_at hl 3 rfl) ?_
      refine lv_iconst (v := 0) hx hb dX2_said_24 (by decide) ?_
      refine lv_bipush (v := 10) hx hb dX2_said_25 (by decide) ?_
      obtain ⟨r_4, h_4, hE⟩ := ob hE
      refine s_calli [.int x3, .int (0 : Int32), .int (10 : Int32)] hC.sC hl.1 (wX2_isIn x3 (0 : Int32) (10 : Int32) r_4 h_4) (va_cwS 3 hts lkX2_69 rfl rfl rfl cdX2_isIn ⟨Nat.le_of_ble_eq_true rfl, Nat.le_of_ble_eq_true rfl⟩) rfl rfl (lv_room (Nat.le_of_ble_eq_true rfl)) ⟨Nat.zero_le _, Nat.zero_le _⟩ dX2_said_27 ?_
      refine lv_if_eq (tgt := 44) hx hb dX2_said_30 (by decide) (fun c_5 => ?_) (fun c_5 => ?_)
      · have hE := ip c_5 hE
        refine lv_bipush (v := -2) hx hb dX2_said_44 (by decide) ?_
        obtain rfl := Option.some.inj hE
        exact m_iret hC hP hS dX2_said_46
      · have hE := iq c_5 hE
        refine lv_aload_n hx hb dX2_said_33 rfl (lv_at hl 0 rfl) ?_
        refine gM_7 hC hP dX2_said_34 ?_
        refine lv_iconst (v := 5) hx hb dX2_said_37 (by decide) ?_
        refine aM_0 hC hP (i := (5 : Int32)) (by decide) dX2_said_38 ?_
        refine lv_bipush (v := 8) hx hb dX2_said_39 (by decide) ?_
        refine lv_icmp_ne (tgt := 47) hx hb dX2_said_41 (by decide) (fun c_7 => ?_) (fun c_7 => ?_)
        · have hE := iq c_7 hE
          refine lv_bipush (v := 121) hx hb dX2_said_47 (by decide) ?_
          refine lv_iconst (v := 3) hx hb dX2_said_49 (by decide) ?_
          refine lv_aload_n hx hb dX2_said_50 rfl (lv_at hl 0 rfl) ?_
          refine gM_7 hC hP dX2_said_51 ?_
          refine lv_iconst (v := 5) hx hb dX2_said_54 (by decide) ?_
          refine aM_0 hC hP (i := (5 : Int32)) (by decide) dX2_said_55 ?_
          refine lv_imul hx hb dX2_said_56 ?_
          refine lv_iadd hx hb dX2_said_57 ?_
          refine nm_i hE (fun v_9 ev_9 hE => ?_)
          refine lv_istore (lv' := [(4, .int v_9), (0, .ref (E.2.2.2.1 0)), (1, .int x1), (2, .int x2), (3, .int x3)]) hx hb dX2_said_58 hl (Nat.le_of_ble_eq_true rfl) rfl (fun ls hl => ?_)
          refine lv_aload_n hx hb dX2_said_60 rfl (lv_at hl 1 rfl) ?_
          refine gM_7 hC hP dX2_said_61 ?_
          refine lv_iload hx hb dX2_said_64 (lv_at hl 0 rfl) ?_
          refine lv_iload_n hx hb dX2_said_66 rfl (lv_at hl 2 rfl) ?_
          obtain ⟨c_10, hE⟩ := og hE
          obtain ⟨z_10, ez_10, hE⟩ := on hE
          refine tM_0 hC hP hS c_10 ez_10 dX2_said_67 (fun H locs hP hS => ?_)
          refine lv_aload_n hx hb dX2_said_68 rfl (lv_at hl 1 rfl) ?_
          refine gM_7 hC hP dX2_said_69 ?_
          refine lv_iload hx hb dX2_said_72 (lv_at hl 0 rfl) ?_
          refine lv_iconst (v := 1) hx hb dX2_said_74 (by decide) ?_
          refine lv_iadd hx hb dX2_said_75 ?_
          refine lv_iload_n hx hb dX2_said_76 rfl (lv_at hl 3 rfl) ?_
          obtain ⟨c_11, hE⟩ := og hE
          obtain ⟨z_11, ez_11, hE⟩ := on hE
          refine tM_0 hC hP hS c_11 ez_11 dX2_said_77 (fun H locs hP hS => ?_)
          refine lv_aload_n hx hb dX2_said_78 rfl (lv_at hl 1 rfl) ?_
          refine gM_7 hC hP dX2_said_79 ?_
          refine lv_iload hx hb dX2_said_82 (lv_at hl 0 rfl) ?_
          refine lv_iconst (v := 2) hx hb dX2_said_84 (by decide) ?_
          refine lv_iadd hx hb dX2_said_85 ?_
          refine lv_iload_n hx hb dX2_said_86 rfl (lv_at hl 4 rfl) ?_
          obtain ⟨c_12, hE⟩ := og hE
          obtain ⟨z_12, ez_12, hE⟩ := on hE
          refine tM_0 hC hP hS c_12 ez_12 dX2_said_87 (fun H locs hP hS => ?_)
          refine lv_aload_n hx hb dX2_said_88 rfl (lv_at hl 1 rfl) ?_
          refine gM_7 hC hP dX2_said_89 ?_
          refine lv_iconst (v := 5) hx hb dX2_said_92 (by decide) ?_
          refine lv_dup2_11 hx hb dX2_said_93 rfl rfl ?_
          refine aM_0 hC hP (i := (5 : Int32)) (by decide) dX2_said_94 ?_
          refine lv_iconst (v := 1) hx hb dX2_said_95 (by decide) ?_
          refine lv_iadd hx hb dX2_said_96 ?_
          obtain ⟨z_14, ez_14, hE⟩ := on hE
          refine tM_0 hC hP hS (i := (5 : Int32)) (by decide) ez_14 dX2_said_97 (fun H locs hP hS => ?_)
          refine lv_aload_n hx hb dX2_said_98 rfl (lv_at hl 1 rfl) ?_
          refine gM_7 hC hP dX2_said_99 ?_
          refine lv_iconst (v := 5) hx hb dX2_said_102 (by decide) ?_
          refine aM_0 hC hP (i := (5 : Int32)) (by decide) dX2_said_103 ?_
          obtain rfl := Option.some.inj hE
          exact m_iret hC hP hS dX2_said_104
        · have hE := ip c_7 hE
          refine lv_bipush (v := -2) hx hb dX2_said_44 (by decide) ?_
          obtain rfl := Option.some.inj hE
          exact m_iret hC hP hS dX2_said_46
  · have hE := ip c_1 hE
    refine lv_aload_n hx hb dX2_said_5 rfl (lv_at hl 0 rfl) ?_
    refine gM_7 hC hP dX2_said_6 ?_
    refine lv_iconst (v := 5) hx hb dX2_said_9 (by decide) ?_
    refine lv_iconst (v := 0) hx hb dX2_said_10 (by decide) ?_
    obtain ⟨z_16, ez_16, hE⟩ := on hE
    refine tM_0 hC hP hS (i := (5 : Int32)) (by decide) ez_16 dX2_said_11 (fun H locs hP hS => ?_)
    refine lv_iconst (v := 0) hx hb dX2_said_12 (by decide) ?_
    obtain rfl := Option.some.inj hE
    exact m_iret hC hP hS dX2_said_13
def fX2_whose_J78 (k : Nat) (z : MS) (v1 : Int32) (v2 : Int32) (x4 : Int32) : Option ((Int32 × Int32 × MS) ⊕ (Int32 × MS)) := some (.inl ((0 : Int32), (x4 + (3 : Int32)), z))
set_option maxHeartbeats 1000000 in
theorem wX2_whose_J78 {p : Program} {l : Launch} {e : Env} {s : State} {m : MethodId} {args : Array Value} {below : List Frame} {meth : Method} {c : Code} {E : ME} {Q : State → Prop} (k : Nat) (z : MS) (v1 : Int32) (v2 : Int32) (x4 : Int32) (hC : mC E cX2_whose 5 (some .int) p s m args meth c) (y : (Int32 × Int32 × MS) ⊕ (Int32 × MS)) (hE : fX2_whose_J78 k z v1 v2 x4 = some y) (hc : ∀ a : Int32 × Int32 × MS, y = .inl a → mW p l e rmX2_whose s m args below meth c E 5 Q 20 [(0, .ref (E.2.2.2.1 0)), (1, .int v1), (2, .int v2), (3, .int a.1), (4, .int a.2.1)] [] a.2.2) (hx1 : ∀ b : Int32 × MS, y = .inr b → mW p l e rmX2_whose s m args below meth c E 5 Q 86 [(0, .ref (E.2.2.2.1 0)), (1, .int v1), (2, .int v2), (3, .int b.1)] [] b.2) : mW p l e rmX2_whose s m args below meth c E 5 Q 78 [(0, .ref (E.2.2.2.1 0)), (1, .int v1), (2, .int v2), (4, .int x4)] [] z := by
  intro H locs ls hP hS hl
  have hx := hC.1
  have hb := hC.2.1
  have hown := hC.2.2.2.2.2.1
  have hts := hC.2.2.2.2.2.2.1
  unfold fX2_whose_J78 at hE
  refine lv_iconst (v := 0) hx hb dX2_whose_78 (by decide) ?_
  refine lv_istore_n (lv' := [(3, .int (0 : Int32)), (0, .ref (E.2.2.2.1 0)), (1, .int v1), (2, .int v2), (4, .int x4)]) hx hb dX2_whose_79 rfl hl (Nat.le_of_ble_eq_true rfl) rfl (fun ls hl => ?_)
  refine lv_iinc (v := (x4 + (3 : Int32))) (lv' := [(4, .int (x4 + (3 : Int32))), (3, .int (0 : Int32)), (0, .ref (E.2.2.2.1 0)), (1, .int v1), (2, .int v2)]) hx hb dX2_whose_80 hl (k := 4) rfl rfl (Nat.le_of_ble_eq_true rfl) rfl (fun ls hl => ?_)
  refine lv_goto (tgt := 20) hx hb dX2_whose_83 (by decide) ?_
  exact hc _ (Option.some.inj hE).symm H locs ls hP hS (lv_sub hl [2, 3, 4, 1, 0] rfl)
def fX2_whose_B20 (k : Nat) (v1 : Int32) (v2 : Int32) (a : Int32 × Int32 × MS) : Option ((Int32 × Int32 × MS) ⊕ (Int32 × MS)) := if ((121 : Int32) + ((3 : Int32) * (a.2.2.2.2.1 0 (5 : Int32).toNatClampNeg))) ≤ a.2.1 then (some (.inr (a.1, a.2.2))) else (if a.1 = 0 then ((fX2_whose_J78 k a.2.2 v1 v2 a.2.1)) else (if ib a.2.1 3205 then none else (if ib (a.2.1 + (1 : Int32)) 3205 then none else ((fX2_catchesOf k a.2.2 v2 (a.2.2.2.2.1 0 a.2.1.toNatClampNeg) (a.2.2.2.2.1 0 (a.2.1 + (1 : Int32)).toNatClampNeg) (1 : Int32)).bind fun r_8 => if ib (a.2.1 + (2 : Int32)) 3205 then none else (if r_8.1 = (r_8.2.2.2.1 0 (a.2.1 + (2 : Int32)).toNatClampNeg) then (some (.inl ((1 : Int32), (a.2.1 + (3 : Int32)), r_8.2))) else ((fX2_whose_J78 k r_8.2 v1 v2 a.2.1)))))))
set_option maxHeartbeats 1000000 in
theorem wX2_whose_B20 {p : Program} {l : Launch} {e : Env} {s : State} {m : MethodId} {args : Array Value} {below : List Frame} {meth : Method} {c : Code} {E : ME} {Q : State → Prop} (k : Nat) (v1 : Int32) (v2 : Int32) (hC : mC E cX2_whose 5 (some .int) p s m args meth c) (a : Int32 × Int32 × MS) (y : (Int32 × Int32 × MS) ⊕ (Int32 × MS)) (hE : fX2_whose_B20 k v1 v2 a = some y) (hc : ∀ a : Int32 × Int32 × MS, y = .inl a → mW p l e rmX2_whose s m args below meth c E 5 Q 20 [(0, .ref (E.2.2.2.1 0)), (1, .int v1), (2, .int v2), (3, .int a.1), (4, .int a.2.1)] [] a.2.2) (hx1 : ∀ b : Int32 × MS, y = .inr b → mW p l e rmX2_whose s m args below meth c E 5 Q 86 [(0, .ref (E.2.2.2.1 0)), (1, .int v1), (2, .int v2), (3, .int b.1)] [] b.2) : mW p l e rmX2_whose s m args below meth c E 5 Q 20 [(0, .ref (E.2.2.2.1 0)), (1, .int v1), (2, .int v2), (3, .int a.1), (4, .int a.2.1)] [] a.2.2 := by
  intro H locs ls hP hS hl
  have hx := hC.1
  have hb := hC.2.1
  have hown := hC.2.2.2.2.2.1
  have hts := hC.2.2.2.2.2.2.1
  unfold fX2_whose_B20 at hE
  refine lv_iload hx hb dX2_whose_20 (lv_at hl 4 rfl) ?_
  refine lv_bipush (v := 121) hx hb dX2_whose_22 (by decide) ?_
  refine lv_iconst (v := 3) hx hb dX2_whose_24 (by decide) ?_
  refine lv_aload_n hx hb dX2_whose_25 rfl (lv_at hl 0 rfl) ?_
  refine gM_7 hC hP dX2_whose_26 ?_
  refine lv_iconst (v := 5) hx hb dX2_whose_29 (by decide) ?_
  refine aM_0 hC hP (i := (5 : Int32)) (by decide) dX2_whose_30 ?_
  refine lv_imul hx hb dX2_whose_31 ?_
  refine lv_iadd hx hb dX2_whose_32 ?_
  refine lv_icmp_ge (tgt := 86) hx hb dX2_whose_33 (by decide) (fun c_4 => ?_) (fun c_4 => ?_)
  · have hE := ip c_4 hE
    exact hx1 _ (Option.some.inj hE).symm H locs ls hP hS (lv_sub hl [0, 1, 2, 3] rfl)
  · have hE := iq c_4 hE
    refine lv_iload_n hx hb dX2_whose_36 rfl (lv_at hl 3 rfl) ?_
    refine lv_if_eq (tgt := 78) hx hb dX2_whose_37 (by decide) (fun c_5 => ?_) (fun c_5 => ?_)
    · have hE := ip c_5 hE
      exact wX2_whose_J78 k a.2.2 v1 v2 a.2.1 hC y hE hc hx1 H locs ls hP hS (lv_sub hl [0, 1, 2, 4] rfl)
    · have hE := iq c_5 hE
      refine lv_aload_n hx hb dX2_whose_40 rfl (lv_at hl 0 rfl) ?_
      refine lv_iload_n hx hb dX2_whose_41 rfl (lv_at hl 2 rfl) ?_
      refine lv_aload_n hx hb dX2_whose_42 rfl (lv_at hl 0 rfl) ?_
      refine gM_7 hC hP dX2_whose_43 ?_
      refine lv_iload hx hb dX2_whose_46 (lv_at hl 4 rfl) ?_
      obtain ⟨c_6, hE⟩ := og hE
      refine aM_0 hC hP c_6 dX2_whose_48 ?_
      refine lv_aload_n hx hb dX2_whose_49 rfl (lv_at hl 0 rfl) ?_
      refine gM_7 hC hP dX2_whose_50 ?_
      refine lv_iload hx hb dX2_whose_53 (lv_at hl 4 rfl) ?_
      refine lv_iconst (v := 1) hx hb dX2_whose_55 (by decide) ?_
      refine lv_iadd hx hb dX2_whose_56 ?_
      obtain ⟨c_7, hE⟩ := og hE
      refine aM_0 hC hP c_7 dX2_whose_57 ?_
      refine lv_iconst (v := 1) hx hb dX2_whose_58 (by decide) ?_
      obtain ⟨r_8, h_8, hE⟩ := ob hE
      refine m_calli [.int v2, .int (a.2.2.2.2.1 0 a.2.1.toNatClampNeg), .int (a.2.2.2.2.1 0 (a.2.1 + (1 : Int32)).toNatClampNeg), .int (1 : Int32)] hC hP hS hl.1 (wX2_catchesOf k a.2.2 v2 (a.2.2.2.2.1 0 a.2.1.toNatClampNeg) (a.2.2.2.2.1 0 (a.2.1 + (1 : Int32)).toNatClampNeg) (1 : Int32) r_8 h_8) (cwV 4 hts lkX2_303 rfl rfl rfl cdX2_catchesOf ⟨Nat.le_of_ble_eq_true rfl, Nat.le_of_ble_eq_true rfl⟩) rfl rfl (lv_room (Nat.le_of_ble_eq_true rfl)) dX2_whose_59 (fun H locs hP hS => ?_)
      refine lv_aload_n hx hb dX2_whose_62 rfl (lv_at hl 0 rfl) ?_
      refine gM_7 hC hP dX2_whose_63 ?_
      refine lv_iload hx hb dX2_whose_66 (lv_at hl 4 rfl) ?_
      refine lv_iconst (v := 2) hx hb dX2_whose_68 (by decide) ?_
      refine lv_iadd hx hb dX2_whose_69 ?_
      obtain ⟨c_9, hE⟩ := og hE
      refine aM_0 hC hP c_9 dX2_whose_70 ?_
      refine lv_icmp_ne (tgt := 78) hx hb dX2_whose_71 (by decide) (fun c_10 => ?_) (fun c_10 => ?_)
      · have hE := iq c_10 hE
        exact wX2_whose_J78 k r_8.2 v1 v2 a.2.1 hC y hE hc hx1 H locs ls hP hS (lv_sub hl [0, 1, 2, 4] rfl)
      · have hE := ip c_10 hE
        refine lv_iconst (v := 1) hx hb dX2_whose_74 (by decide) ?_
        refine lv_goto (tgt := 79) hx hb dX2_whose_75 (by decide) ?_
        refine lv_istore_n (lv' := [(3, .int (1 : Int32)), (0, .ref (E.2.2.2.1 0)), (1, .int v1), (2, .int v2), (4, .int a.2.1)]) hx hb dX2_whose_79 rfl hl (Nat.le_of_ble_eq_true rfl) rfl (fun ls hl => ?_)
        refine lv_iinc (v := (a.2.1 + (3 : Int32))) (lv' := [(4, .int (a.2.1 + (3 : Int32))), (3, .int (1 : Int32)), (0, .ref (E.2.2.2.1 0)), (1, .int v1), (2, .int v2)]) hx hb dX2_whose_80 hl (k := 4) rfl rfl (Nat.le_of_ble_eq_true rfl) rfl (fun ls hl => ?_)
        refine lv_goto (tgt := 20) hx hb dX2_whose_83 (by decide) ?_
        exact hc _ (Option.some.inj hE).symm H locs ls hP hS (lv_sub hl [2, 3, 4, 1, 0] rfl)
def fX2_whose_B4 (k : Nat)  (a : Int32 × Int32 × MS) : Option ((Int32 × Int32 × MS) ⊕ (Int32 × MS)) := if (a.2.2.2.2.1 0 (1 : Int32).toNatClampNeg) ≤ a.2.1 then (some (.inr (a.1, a.2.2))) else ((lpo (fX2_whose_B20 k a.1 a.2.1) k ((1 : Int32), (121 : Int32), a.2.2)).bind fun x_11 => if x_11.1 = 0 then (some (.inl ((a.1 ||| (0 : Int32)), (a.2.1 + (1 : Int32)), x_11.2))) else (some (.inl ((a.1 ||| ((1 : Int32) <<< (a.2.1 &&& 31))), (a.2.1 + (1 : Int32)), x_11.2))))
set_option maxHeartbeats 1000000 in
theorem wX2_whose_B4 {p : Program} {l : Launch} {e : Env} {s : State} {m : MethodId} {args : Array Value} {below : List Frame} {meth : Method} {c : Code} {E : ME} {Q : State → Prop} (k : Nat)  (hC : mC E cX2_whose 5 (some .int) p s m args meth c) (a : Int32 × Int32 × MS) (y : (Int32 × Int32 × MS) ⊕ (Int32 × MS)) (hE : fX2_whose_B4 k  a = some y) (hc : ∀ a : Int32 × Int32 × MS, y = .inl a → mW p l e rmX2_whose s m args below meth c E 5 Q 4 [(0, .ref (E.2.2.2.1 0)), (1, .int a.1), (2, .int a.2.1)] [] a.2.2) (hx1 : ∀ b : Int32 × MS, y = .inr b → mW p l e rmX2_whose s m args below meth c E 5 Q 106 [(1, .int b.1)] [] b.2) : mW p l e rmX2_whose s m args below meth c E 5 Q 4 [(0, .ref (E.2.2.2.1 0)), (1, .int a.1), (2, .int a.2.1)] [] a.2.2 := by
  intro H locs ls hP hS hl
  have hx := hC.1
  have hb := hC.2.1
  have hown := hC.2.2.2.2.2.1
  have hts := hC.2.2.2.2.2.2.1
  unfold fX2_whose_B4 at hE
  refine lv_iload_n hx hb dX2_whose_4 rfl (lv_at hl 2 rfl) ?_
  refine lv_aload_n hx hb dX2_whose_5 rfl (lv_at hl 0 rfl) ?_
  refine gM_7 hC hP dX2_whose_6 ?_
  refine lv_iconst (v := 1) hx hb dX2_whose_9 (by decide) ?_
  refine aM_0 hC hP (i := (1 : Int32)) (by decide) dX2_whose_10 ?_
  refine lv_icmp_ge (tgt := 106) hx hb dX2_whose_11 (by decide) (fun c_2 => ?_) (fun c_2 => ?_)
  · have hE := ip c_2 hE
    exact hx1 _ (Option.some.inj hE).symm H locs ls hP hS (lv_sub hl [1] rfl)
  · have hE := iq c_2 hE
    refine lv_iconst (v := 1) hx hb dX2_whose_14 (by decide) ?_
    refine lv_istore_n (lv' := [(3, .int (1 : Int32)), (0, .ref (E.2.2.2.1 0)), (1, .int a.1), (2, .int a.2.1)]) hx hb dX2_whose_15 rfl hl (Nat.le_of_ble_eq_true rfl) rfl (fun ls hl => ?_)
    refine lv_bipush (v := 121) hx hb dX2_whose_16 (by decide) ?_
    refine lv_istore (lv' := [(4, .int (121 : Int32)), (3, .int (1 : Int32)), (0, .ref (E.2.2.2.1 0)), (1, .int a.1), (2, .int a.2.1)]) hx hb dX2_whose_18 hl (Nat.le_of_ble_eq_true rfl) rfl (fun ls hl => ?_)
    obtain ⟨x_11, h_11, hE⟩ := ob hE
    refine lpo_walk (fun p_11 : Int32 × Int32 × MS => mW p l e rmX2_whose s m args below meth c E 5 Q 20 [(0, .ref (E.2.2.2.1 0)), (1, .int a.1), (2, .int a.2.1), (3, .int p_11.1), (4, .int p_11.2.1)] [] p_11.2.2) (fun q_11 : Int32 × MS => mW p l e rmX2_whose s m args below meth c E 5 Q 86 [(0, .ref (E.2.2.2.1 0)), (1, .int a.1), (2, .int a.2.1), (3, .int q_11.1)] [] q_11.2) (fun a_11 y_11 hB_11 hc_11 hx_11 => wX2_whose_B20 k a.1 a.2.1 hC a_11 y_11 hB_11 hc_11 hx_11) _ _ x_11 h_11 ?_ H locs ls hP hS (lv_sub hl [2, 3, 4, 1, 0] rfl)
    intro H locs ls hP hS hl
    refine lv_iload_n hx hb dX2_whose_86 rfl (lv_at hl 1 rfl) ?_
    refine lv_iload_n hx hb dX2_whose_87 rfl (lv_at hl 3 rfl) ?_
    refine lv_if_eq (tgt := 97) hx hb dX2_whose_88 (by decide) (fun c_12 => ?_) (fun c_12 => ?_)
    · have hE := ip c_12 hE
      refine lv_iconst (v := 0) hx hb dX2_whose_97 (by decide) ?_
      refine lv_ior hx hb dX2_whose_98 ?_
      refine lv_istore_n (lv' := [(1, .int (a.1 ||| (0 : Int32))), (0, .ref (E.2.2.2.1 0)), (2, .int a.2.1), (3, .int x_11.1)]) hx hb dX2_whose_99 rfl hl (Nat.le_of_ble_eq_true rfl) rfl (fun ls hl => ?_)
      refine lv_iinc (v := (a.2.1 + (1 : Int32))) (lv' := [(2, .int (a.2.1 + (1 : Int32))), (1, .int (a.1 ||| (0 : Int32))), (0, .ref (E.2.2.2.1 0)), (3, .int x_11.1)]) hx hb dX2_whose_100 hl (k := 2) rfl rfl (Nat.le_of_ble_eq_true rfl) rfl (fun ls hl => ?_)
      refine lv_goto (tgt := 4) hx hb dX2_whose_103 (by decide) ?_
      exact hc _ (Option.some.inj hE).symm H locs ls hP hS (lv_sub hl [2, 1, 0] rfl)
    · have hE := iq c_12 hE
      refine lv_iconst (v := 1) hx hb dX2_whose_91 (by decide) ?_
      refine lv_iload_n hx hb dX2_whose_92 rfl (lv_at hl 2 rfl) ?_
      refine lv_ishl hx hb dX2_whose_93 ?_
      refine lv_goto (tgt := 98) hx hb dX2_whose_94 (by decide) ?_
      refine lv_ior hx hb dX2_whose_98 ?_
      refine lv_istore_n (lv' := [(1, .int (a.1 ||| ((1 : Int32) <<< (a.2.1 &&& 31)))), (0, .ref (E.2.2.2.1 0)), (2, .int a.2.1), (3, .int x_11.1)]) hx hb dX2_whose_99 rfl hl (Nat.le_of_ble_eq_true rfl) rfl (fun ls hl => ?_)
      refine lv_iinc (v := (a.2.1 + (1 : Int32))) (lv' := [(2, .int (a.2.1 + (1 : Int32))), (1, .int (a.1 ||| ((1 : Int32) <<< (a.2.1 &&& 31)))), (0, .ref (E.2.2.2.1 0)), (3, .int x_11.1)]) hx hb dX2_whose_100 hl (k := 2) rfl rfl (Nat.le_of_ble_eq_true rfl) rfl (fun ls hl => ?_)
      refine lv_goto (tgt := 4) hx hb dX2_whose_103 (by decide) ?_
      exact hc _ (Option.some.inj hE).symm H locs ls hP hS (lv_sub hl [2, 1, 0] rfl)
def fX2_whose (k : Nat) (z : MS)  : Option (Int32 × MS) := (lpo (fX2_whose_B4 k ) k ((0 : Int32), (0 : Int32), z)).bind fun x_13 => some (x_13.1, x_13.2)
set_option maxHeartbeats 1000000 in
theorem wX2_whose {l : Launch} {E : ME} (k : Nat) (z : MS)  (y : Int32 × MS) (hE : fX2_whose k z  = some y) : mM l yX2_whose (ws_ yX2_whose cX2_whose 5 (some .int)) rmX2_whose E z [] (some (.int y.1)) y.2 := by
  refine m_met (by decide) rfl (Nat.le_of_ble_eq_true rfl) (fun p e s m args below meth c hC => ?_)
  intro H locs ls hP hS hl
  have hx := hC.1
  have hb := hC.2.1
  have hown := hC.2.2.2.2.2.1
  have hts := hC.2.2.2.2.2.2.1
  have hl : lv_has ls 5 [(0, .ref (E.2.2.2.1 0))] := hl
  unfold fX2_whose at hE
  refine lv_iconst (v := 0) hx hb dX2_whose_0 (by decide) ?_
  refine lv_istore_n (lv' := [(1, .int (0 : Int32)), (0, .ref (E.2.2.2.1 0))]) hx hb dX2_whose_1 rfl hl (Nat.le_of_ble_eq_true rfl) rfl (fun ls hl => ?_)
  refine lv_iconst (v := 0) hx hb dX2_whose_2 (by decide) ?_
  refine lv_istore_n (lv' := [(2, .int (0 : Int32)), (1, .int (0 : Int32)), (0, .ref (E.2.2.2.1 0))]) hx hb dX2_whose_3 rfl hl (Nat.le_of_ble_eq_true rfl) rfl (fun ls hl => ?_)
  obtain ⟨x_13, h_13, hE⟩ := ob hE
  refine lpo_walk (fun p_13 : Int32 × Int32 × MS => mW p l e rmX2_whose s m args below meth c E 5 (mQ E below args s (some (.int y.1)) y.2) 4 [(0, .ref (E.2.2.2.1 0)), (1, .int p_13.1), (2, .int p_13.2.1)] [] p_13.2.2) (fun q_13 : Int32 × MS => mW p l e rmX2_whose s m args below meth c E 5 (mQ E below args s (some (.int y.1)) y.2) 106 [(1, .int q_13.1)] [] q_13.2) (fun a_13 y_13 hB_13 hc_13 hx_13 => wX2_whose_B4 k  hC a_13 y_13 hB_13 hc_13 hx_13) _ _ x_13 h_13 ?_ H locs ls hP hS (lv_sub hl [2, 1, 0] rfl)
  intro H locs ls hP hS hl
  refine lv_iload_n hx hb dX2_whose_106 rfl (lv_at hl 0 rfl) ?_
  obtain rfl := Option.some.inj hE
  exact m_iret hC hP hS dX2_whose_107
def fX2_image (k : Nat) (z : MS)  : Option (Int32 × MS) := (fX2_copy_0_1 k z).bind fun r_1 => some ((r_1.2.2.1 0 (6 : Int32).toNatClampNeg), r_1)
set_option maxHeartbeats 1000000 in
theorem wX2_image {l : Launch} {E : ME} (k : Nat) (z : MS)  (y : Int32 × MS) (hE : fX2_image k z  = some y) : mM l yX2_image (ws_ yX2_image cX2_image 1 (some .int)) rmX2_image E z [] (some (.int y.1)) y.2 := by
  refine m_met (by decide) rfl (Nat.le_of_ble_eq_true rfl) (fun p e s m args below meth c hC => ?_)
  intro H locs ls hP hS hl
  have hx := hC.1
  have hb := hC.2.1
  have hown := hC.2.2.2.2.2.1
  have hts := hC.2.2.2.2.2.2.1
  have hl : lv_has ls 1 [(0, .ref (E.2.2.2.1 0))] := hl
  unfold fX2_image at hE
  refine lv_aload_n hx hb dX2_image_0 rfl (lv_at hl 0 rfl) ?_
  refine gM_7 hC hP dX2_image_1 ?_
  refine lv_aload_n hx hb dX2_image_4 rfl (lv_at hl 0 rfl) ?_
  refine gM_13 hC hP dX2_image_5 ?_
  obtain ⟨r_1, h_1, hE⟩ := ob hE
  refine n_callv [.ref (E.2.2.2.1 1), .ref (E.2.2.2.1 2)] hC hP hS hl.1 (wX2_copy_0_1 k z r_1 h_1) (va_cwS 2 hts lkX2_65 rfl rfl rfl cdX2_copy ⟨Nat.le_of_ble_eq_true rfl, Nat.le_of_ble_eq_true rfl⟩) rfl rfl (lv_room (Nat.le_of_ble_eq_true rfl)) dX2_image_8 (fun H locs hP hS => ?_)
  refine lv_aload_n hx hb dX2_image_11 rfl (lv_at hl 0 rfl) ?_
  refine gM_7 hC hP dX2_image_12 ?_
  refine lv_bipush (v := 6) hx hb dX2_image_15 (by decide) ?_
  refine aM_0 hC hP (i := (6 : Int32)) (by decide) dX2_image_17 ?_
  obtain rfl := Option.some.inj hE
  exact m_iret hC hP hS dX2_image_18
def fX2_back (k : Nat) (z : MS)  : Option (Int32 × MS) := (fX2_copy_1_0 k z).bind fun r_1 => some ((r_1.2.2.1 0 (6 : Int32).toNatClampNeg), r_1)
set_option maxHeartbeats 1000000 in
theorem wX2_back {l : Launch} {E : ME} (k : Nat) (z : MS)  (y : Int32 × MS) (hE : fX2_back k z  = some y) : mM l yX2_back (ws_ yX2_back cX2_back 1 (some .int)) rmX2_back E z [] (some (.int y.1)) y.2 := by
  refine m_met (by decide) rfl (Nat.le_of_ble_eq_true rfl) (fun p e s m args below meth c hC => ?_)
  intro H locs ls hP hS hl
  have hx := hC.1
  have hb := hC.2.1
  have hown := hC.2.2.2.2.2.1
  have hts := hC.2.2.2.2.2.2.1
  have hl : lv_has ls 1 [(0, .ref (E.2.2.2.1 0))] := hl
  unfold fX2_back at hE
  refine lv_aload_n hx hb dX2_back_0 rfl (lv_at hl 0 rfl) ?_
  refine gM_13 hC hP dX2_back_1 ?_
  refine lv_aload_n hx hb dX2_back_4 rfl (lv_at hl 0 rfl) ?_
  refine gM_7 hC hP dX2_back_5 ?_
  obtain ⟨r_1, h_1, hE⟩ := ob hE
  refine n_callv [.ref (E.2.2.2.1 2), .ref (E.2.2.2.1 1)] hC hP hS hl.1 (wX2_copy_1_0 k z r_1 h_1) (va_cwS 2 hts lkX2_65 rfl rfl rfl cdX2_copy ⟨Nat.le_of_ble_eq_true rfl, Nat.le_of_ble_eq_true rfl⟩) rfl rfl (lv_room (Nat.le_of_ble_eq_true rfl)) dX2_back_8 (fun H locs hP hS => ?_)
  refine lv_aload_n hx hb dX2_back_11 rfl (lv_at hl 0 rfl) ?_
  refine gM_7 hC hP dX2_back_12 ?_
  refine lv_bipush (v := 6) hx hb dX2_back_15 (by decide) ?_
  refine aM_0 hC hP (i := (6 : Int32)) (by decide) dX2_back_17 ?_
  obtain rfl := Option.some.inj hE
  exact m_iret hC hP hS dX2_back_18
def fX2_about (z : MS) (x1 : Int32) : Option Int32 := (fX2_isIn x1 (0 : Int32) (5 : Int32)).bind fun r_1 => if r_1 = 0 then (if x1 = (6 : Int32) then (some (z.1 4)) else (some (-2 : Int32))) else (if ib x1 3205 then none else (some (z.2.2.1 0 x1.toNatClampNeg)))
set_option maxHeartbeats 1000000 in
theorem wX2_about {l : Launch} {E : ME} (z : MS) (x1 : Int32) (y : Int32) (hE : fX2_about z x1 = some y) : mM l yX2_about (ws_ yX2_about cX2_about 2 (some .int)) rmX2_about E z [.int x1] (some (.int y)) z := by
  refine m_met (by decide) rfl (Nat.le_of_ble_eq_true rfl) (fun p e s m args below meth c hC => ?_)
  intro H locs ls hP hS hl
  have hx := hC.1
  have hb := hC.2.1
  have hown := hC.2.2.2.2.2.1
  have hts := hC.2.2.2.2.2.2.1
  have hl : lv_has ls 2 [(0, .ref (E.2.2.2.1 0)), (1, .int x1)] := hl
  unfold fX2_about at hE
  refine lv_iload_n hx hb dX2_about_0 rfl (lv_at hl 1 rfl) ?_
  refine lv_iconst (v := 0) hx hb dX2_about_1 (by decide) ?_
  refine lv_iconst (v := 5) hx hb dX2_about_2 (by decide) ?_
  obtain ⟨r_1, h_1, hE⟩ := ob hE
  refine s_calli [.int x1, .int (0 : Int32), .int (5 : Int32)] hC.sC hl.1 (wX2_isIn x1 (0 : Int32) (5 : Int32) r_1 h_1) (va_cwS 3 hts lkX2_69 rfl rfl rfl cdX2_isIn ⟨Nat.le_of_ble_eq_true rfl, Nat.le_of_ble_eq_true rfl⟩) rfl rfl (lv_room (Nat.le_of_ble_eq_true rfl)) ⟨Nat.zero_le _, Nat.zero_le _⟩ dX2_about_3 ?_
  refine lv_if_eq (tgt := 18) hx hb dX2_about_6 (by decide) (fun c_2 => ?_) (fun c_2 => ?_)
  · have hE := ip c_2 hE
    refine lv_iload_n hx hb dX2_about_18 rfl (lv_at hl 1 rfl) ?_
    refine lv_bipush (v := 6) hx hb dX2_about_19 (by decide) ?_
    refine lv_icmp_ne (tgt := 31) hx hb dX2_about_21 (by decide) (fun c_3 => ?_) (fun c_3 => ?_)
    · have hE := iq c_3 hE
      refine lv_bipush (v := -2) hx hb dX2_about_31 (by decide) ?_
      obtain rfl := Option.some.inj hE
      exact m_iret hC hP hS dX2_about_33
    · have hE := ip c_3 hE
      refine lv_aload_n hx hb dX2_about_24 rfl (lv_at hl 0 rfl) ?_
      refine gM_81 hC hP dX2_about_25 ?_
      refine lv_goto (tgt := 33) hx hb dX2_about_28 (by decide) ?_
      obtain rfl := Option.some.inj hE
      exact m_iret hC hP hS dX2_about_33
  · have hE := iq c_2 hE
    refine lv_aload_n hx hb dX2_about_9 rfl (lv_at hl 0 rfl) ?_
    refine gM_7 hC hP dX2_about_10 ?_
    refine lv_iload_n hx hb dX2_about_13 rfl (lv_at hl 1 rfl) ?_
    obtain ⟨c_4, hE⟩ := og hE
    refine aM_0 hC hP c_4 dX2_about_14 ?_
    refine lv_goto (tgt := 33) hx hb dX2_about_15 (by decide) ?_
    obtain rfl := Option.some.inj hE
    exact m_iret hC hP hS dX2_about_33
