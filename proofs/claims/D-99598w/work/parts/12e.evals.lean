set_option maxRecDepth 100000
set_option maxHeartbeats 1000000 in
theorem wX7_of {l : Launch} {E : XE} {P : Nat → Prop} {d na : Nat} {v : Nat} {f : Nat → Int32} (hcl : xCl E) (n : Int32) (y : Int64) (hE : fX7_of n = some y) : eM l E yX7_of (ws_ yX7_of cX7_of 2 (some .long)) (rmE (d + 1)) [.ref na, .ref v] (fun H => eCallS l E P d ∧ eCallA l E P d ∧ va_at E.1 E.2.1 (v, .inl (E.2.2.2.1 0, 38, .inl f)) H ∧ va_at E.1 E.2.1 (na, .inr (6, [.int n])) H) (some (.long y)) := by
  refine e_met hcl (own := RX7) (by decide) rfl (Nat.le_of_ble_eq_true rfl) (fun p e s m args below meth c hC hF => ?_)
  have hC := And.intro hC hF
  intro ls hl
  have hx := hC.1.1.1
  have hb := hC.1.1.2.1
  have hown := hC.1.1.2.2.2.2.2.1
  have hts := hC.1.1.2.2.2.2.2.2
  obtain ⟨hIS, hIA, hV, hA⟩ := hC.2
  have hl : lv_has ls 2 [(0, .ref na), (1, .ref v)] := hl
  unfold fX7_of at hE
  refine lv_aload_n hx hb dX7_of_0 rfl (lv_at hl 0 rfl) ?_
  refine e_get (k := 0) (D := RX7) hC.1 hA in_X7 (ci := 6) rfl (by decide) q553 rfl rfl dX7_of_1 ?_
  refine lv_i2l hx hb dX7_of_4 rfl ?_
  obtain rfl := Option.some.inj hE
  exact s_lret hC.1.1 dX7_of_5
set_option maxHeartbeats 1000000 in
theorem wX13_of {l : Launch} {E : XE} {P : Nat → Prop} {d na : Nat} {v : Nat} (hcl : xCl E) (n : Int32) (f : Nat → Int32) (y : Int64) (hE : fX13_of n f = some y) : eM l E yX13_of (ws_ yX13_of cX13_of 2 (some .long)) (rmE (d + 1)) [.ref na, .ref v] (fun H => eCallS l E P d ∧ eCallA l E P d ∧ va_at E.1 E.2.1 (v, .inl (E.2.2.2.1 0, 38, .inl f)) H ∧ va_at E.1 E.2.1 (na, .inr (12, [.int n])) H) (some (.long y)) := by
  refine e_met hcl (own := RX13) (by decide) rfl (Nat.le_of_ble_eq_true rfl) (fun p e s m args below meth c hC hF => ?_)
  have hC := And.intro hC hF
  intro ls hl
  have hx := hC.1.1.1
  have hb := hC.1.1.2.1
  have hown := hC.1.1.2.2.2.2.2.1
  have hts := hC.1.1.2.2.2.2.2.2
  obtain ⟨hIS, hIA, hV, hA⟩ := hC.2
  have hl : lv_has ls 2 [(0, .ref na), (1, .ref v)] := hl
  unfold fX13_of at hE
  refine lv_aload_n hx hb dX13_of_0 rfl (lv_at hl 1 rfl) ?_
  refine lv_aload_n hx hb dX13_of_1 rfl (lv_at hl 0 rfl) ?_
  refine e_get (k := 0) (D := RX13) hC.1 hA in_X13 (ci := 12) rfl (by decide) q750 rfl rfl dX13_of_2 ?_
  obtain ⟨c_1, hE⟩ := og hE
  refine va_iald hx hb hC.1.2.1 (e_one hV) 0 0 rfl rfl c_1 dX13_of_5 ?_
  refine lv_i2l hx hb dX13_of_6 rfl ?_
  obtain rfl := Option.some.inj hE
  exact s_lret hC.1.1 dX13_of_7
set_option maxHeartbeats 1000000 in
theorem wX15_of {l : Launch} {E : XE} {P : Nat → Prop} {d na : Nat} {v : Nat} {f : Nat → Int32} {b1 : Nat} {u1 : SemF} (hcl : xCl E) (c1 : Int64) (y : Int64) (hE : fX15_of c1 = some y) : eM l E yX15_of (ws_ yX15_of cX15_of 2 (some .long)) (rmE (d + 1)) [.ref na, .ref v] (fun H => eCallS l E P d ∧ eCallA l E P d ∧ va_at E.1 E.2.1 (v, .inl (E.2.2.2.1 0, 38, .inl f)) H ∧ va_at E.1 E.2.1 (na, .inr (14, [.ref b1])) H ∧ NodeAt E P d true b1 u1 H ∧ u1 f = c1) (some (.long y)) := by
  refine e_met hcl (own := RX15) (by decide) rfl (Nat.le_of_ble_eq_true rfl) (fun p e s m args below meth c hC hF => ?_)
  have hC := And.intro hC hF
  intro ls hl
  have hx := hC.1.1.1
  have hb := hC.1.1.2.1
  have hown := hC.1.1.2.2.2.2.2.1
  have hts := hC.1.1.2.2.2.2.2.2
  obtain ⟨hIS, hIA, hV, hA, h1, e1⟩ := hC.2
  have hl : lv_has ls 2 [(0, .ref na), (1, .ref v)] := hl
  unfold fX15_of at hE
  refine lv_aload_n hx hb dX15_of_0 rfl (lv_at hl 0 rfl) ?_
  refine e_get (k := 0) (D := RX15) hC.1 hA in_X15 (ci := 14) rfl (by decide) q770 rfl rfl dX15_of_1 ?_
  refine lv_aload_n hx hb dX15_of_4 rfl (lv_at hl 1 rfl) ?_
  refine hIS q960 hC.1 hV h1 e1 hl.1 (by show d + 5 ≤ d + 1 + 4; omega) (by show d * 40 + 240 ≤ (d + 1) * 40 + 200; omega) (lv_room (Nat.le_of_ble_eq_true rfl)) ⟨Nat.zero_le _, Nat.zero_le _⟩ dX15_of_5 ?_
  refine lv_lneg hx hb dX15_of_10 ?_
  obtain rfl := Option.some.inj hE
  exact s_lret hC.1.1 dX15_of_11
set_option maxHeartbeats 1000000 in
theorem wX14_of {l : Launch} {E : XE} {P : Nat → Prop} {d na : Nat} {v : Nat} {b1 : Nat} {u1 : SemF} (hcl : xCl E) (c1 : Int64) (f : Nat → Int32) (y : Int64) (hE : fX14_of c1 f = some y) : eM l E yX14_of (ws_ yX14_of cX14_of 4 (some .long)) (rmE (d + 1)) [.ref na, .ref v] (fun H => eCallS l E P d ∧ eCallA l E P d ∧ va_at E.1 E.2.1 (v, .inl (E.2.2.2.1 0, 38, .inl f)) H ∧ va_at E.1 E.2.1 (na, .inr (13, [.ref b1])) H ∧ NodeAt E P d true b1 u1 H ∧ u1 f = c1) (some (.long y)) := by
  refine e_met hcl (own := RX14) (by decide) rfl (Nat.le_of_ble_eq_true rfl) (fun p e s m args below meth c hC hF => ?_)
  have hC := And.intro hC hF
  intro ls hl
  have hx := hC.1.1.1
  have hb := hC.1.1.2.1
  have hown := hC.1.1.2.2.2.2.2.1
  have hts := hC.1.1.2.2.2.2.2.2
  obtain ⟨hIS, hIA, hV, hA, h1, e1⟩ := hC.2
  have hl : lv_has ls 4 [(0, .ref na), (1, .ref v)] := hl
  unfold fX14_of at hE
  refine lv_aload_n hx hb dX14_of_0 rfl (lv_at hl 0 rfl) ?_
  refine e_get (k := 0) (D := RX14) hC.1 hA in_X14 (ci := 13) rfl (by decide) q760 rfl rfl dX14_of_1 ?_
  refine lv_aload_n hx hb dX14_of_4 rfl (lv_at hl 1 rfl) ?_
  refine hIS q952 hC.1 hV h1 e1 hl.1 (by show d + 5 ≤ d + 1 + 4; omega) (by show d * 40 + 240 ≤ (d + 1) * 40 + 200; omega) (lv_room (Nat.le_of_ble_eq_true rfl)) ⟨Nat.zero_le _, Nat.zero_le _⟩ dX14_of_5 ?_
  refine lv_lstore_n (lv' := [(2, .long c1), (0, .ref na), (1, .ref v)]) hx hb dX14_of_10 rfl hl (Nat.le_of_ble_eq_true rfl) rfl (fun ls hl => ?_)
  refine lv_lload_n hx hb dX14_of_11 rfl (lv_at hl 0 rfl) ?_
  refine lv_lconst (v := 0) hx hb dX14_of_12 (by decide) ?_
  refine W.lcmp hx hb dX14_of_13 ?_
  refine lv_if_lt (tgt := 25) hx hb dX14_of_14 (by decide) (fun c_1 => ?_) (fun c_1 => ?_)
  · have hE := ip c_1 hE
    refine lv_lconst (v := 0) hx hb dX14_of_25 (by decide) ?_
    refine lv_goto (tgt := 37) hx hb dX14_of_26 (by decide) ?_
    obtain rfl := Option.some.inj hE
    exact s_lret hC.1.1 dX14_of_37
  · have hE := iq c_1 hE
    refine lv_lload_n hx hb dX14_of_17 rfl (lv_at hl 0 rfl) ?_
    refine lv_ldc2 (v := 30) hx hb hown (hts _ q981) dX14_of_18 ?_
    refine W.lcmp hx hb dX14_of_21 ?_
    refine lv_if_lt (tgt := 29) hx hb dX14_of_22 (by decide) (fun c_2 => ?_) (fun c_2 => ?_)
    · have hE := ip c_2 hE
      refine lv_aload_n hx hb dX14_of_29 rfl (lv_at hl 2 rfl) ?_
      refine lv_bipush (v := 8) hx hb dX14_of_30 (by decide) ?_
      refine lv_lload_n hx hb dX14_of_32 rfl (lv_at hl 0 rfl) ?_
      refine lv_l2i hx hb dX14_of_33 rfl ?_
      refine lv_iadd hx hb dX14_of_34 ?_
      obtain ⟨c_3, hE⟩ := og hE
      refine va_iald hx hb hC.1.2.1 (e_one hV) 0 0 rfl rfl c_3 dX14_of_35 ?_
      refine lv_i2l hx hb dX14_of_36 rfl ?_
      obtain rfl := Option.some.inj hE
      exact s_lret hC.1.1 dX14_of_37
    · have hE := iq c_2 hE
      refine lv_lconst (v := 0) hx hb dX14_of_25 (by decide) ?_
      refine lv_goto (tgt := 37) hx hb dX14_of_26 (by decide) ?_
      obtain rfl := Option.some.inj hE
      exact s_lret hC.1.1 dX14_of_37
set_option maxHeartbeats 1000000 in
theorem wX12_of {l : Launch} {E : XE} {P : Nat → Prop} {d na : Nat} {v : Nat} {f : Nat → Int32} {b1 : Nat} {u1 : SemF} {b2 : Nat} {u2 : SemF} (hcl : xCl E) (c1 : Int64) (c2 : Int64) (y : Int64) (hE : fX12_of c1 c2 = some y) : eM l E yX12_of (ws_ yX12_of cX12_of 6 (some .long)) (rmE (d + 1)) [.ref na, .ref v] (fun H => eCallS l E P d ∧ eCallA l E P d ∧ va_at E.1 E.2.1 (v, .inl (E.2.2.2.1 0, 38, .inl f)) H ∧ va_at E.1 E.2.1 (na, .inr (11, [.ref b1, .ref b2])) H ∧ NodeAt E P d true b1 u1 H ∧ u1 f = c1 ∧ NodeAt E P d true b2 u2 H ∧ u2 f = c2) (some (.long y)) := by
  refine e_met hcl (own := RX12) (by decide) rfl (Nat.le_of_ble_eq_true rfl) (fun p e s m args below meth c hC hF => ?_)
  have hC := And.intro hC hF
  intro ls hl
  have hx := hC.1.1.1
  have hb := hC.1.1.2.1
  have hown := hC.1.1.2.2.2.2.2.1
  have hts := hC.1.1.2.2.2.2.2.2
  obtain ⟨hIS, hIA, hV, hA, h1, e1, h2, e2⟩ := hC.2
  have hl : lv_has ls 6 [(0, .ref na), (1, .ref v)] := hl
  unfold fX12_of at hE
  refine lv_aload_n hx hb dX12_of_0 rfl (lv_at hl 0 rfl) ?_
  refine e_get (k := 0) (D := RX12) hC.1 hA in_X12 (ci := 11) rfl (by decide) q727 rfl rfl dX12_of_1 ?_
  refine lv_aload_n hx hb dX12_of_4 rfl (lv_at hl 1 rfl) ?_
  refine hIS q980 hC.1 hV h1 e1 hl.1 (by show d + 5 ≤ d + 1 + 4; omega) (by show d * 40 + 240 ≤ (d + 1) * 40 + 200; omega) (lv_room (Nat.le_of_ble_eq_true rfl)) ⟨Nat.zero_le _, Nat.zero_le _⟩ dX12_of_5 ?_
  refine lv_lstore_n (lv' := [(2, .long c1), (0, .ref na), (1, .ref v)]) hx hb dX12_of_10 rfl hl (Nat.le_of_ble_eq_true rfl) rfl (fun ls hl => ?_)
  refine lv_aload_n hx hb dX12_of_11 rfl (lv_at hl 1 rfl) ?_
  refine e_get (k := 1) (D := RX12) hC.1 hA in_X12 (ci := 11) rfl (by decide) q728 rfl rfl dX12_of_12 ?_
  refine lv_aload_n hx hb dX12_of_15 rfl (lv_at hl 2 rfl) ?_
  refine hIS q980 hC.1 hV h2 e2 hl.1 (by show d + 5 ≤ d + 1 + 4; omega) (by show d * 40 + 240 ≤ (d + 1) * 40 + 200; omega) (lv_room (Nat.le_of_ble_eq_true rfl)) ⟨Nat.zero_le _, Nat.zero_le _⟩ dX12_of_16 ?_
  refine lv_lstore (lv' := [(4, .long c2), (2, .long c1), (0, .ref na), (1, .ref v)]) hx hb dX12_of_21 hl (Nat.le_of_ble_eq_true rfl) rfl (fun ls hl => ?_)
  refine lv_lload hx hb dX12_of_23 (lv_at hl 0 rfl) ?_
  refine lv_lconst (v := 0) hx hb dX12_of_25 (by decide) ?_
  refine W.lcmp hx hb dX12_of_26 ?_
  refine lv_if_gt (tgt := 34) hx hb dX12_of_27 (by decide) (fun c_1 => ?_) (fun c_1 => ?_)
  · have hE := ip c_1 hE
    refine lv_lload_n hx hb dX12_of_34 rfl (lv_at hl 1 rfl) ?_
    refine lv_lload hx hb dX12_of_35 (lv_at hl 0 rfl) ?_
    obtain ⟨c_2, hE⟩ := og hE
    refine lv_lrem hx hb dX12_of_37 c_2 ?_
    refine lv_lload hx hb dX12_of_38 (lv_at hl 0 rfl) ?_
    refine lv_ladd hx hb dX12_of_40 ?_
    refine lv_lload hx hb dX12_of_41 (lv_at hl 0 rfl) ?_
    obtain ⟨c_3, hE⟩ := og hE
    refine lv_lrem hx hb dX12_of_43 c_3 ?_
    obtain rfl := Option.some.inj hE
    exact s_lret hC.1.1 dX12_of_44
  · have hE := iq c_1 hE
    refine lv_lconst (v := 0) hx hb dX12_of_30 (by decide) ?_
    refine lv_goto (tgt := 44) hx hb dX12_of_31 (by decide) ?_
    obtain rfl := Option.some.inj hE
    exact s_lret hC.1.1 dX12_of_44
set_option maxHeartbeats 1000000 in
theorem wX11_of {l : Launch} {E : XE} {P : Nat → Prop} {d na : Nat} {v : Nat} {f : Nat → Int32} {b1 : Nat} {u1 : SemF} {b2 : Nat} {u2 : SemF} {b3 : Nat} {u3 : SemF} (hcl : xCl E) (c1 : Int32) (c2 : Int64) (c3 : Int64) (y : Int64) (hE : fX11_of c1 c2 c3 = some y) : eM l E yX11_of (ws_ yX11_of cX11_of 2 (some .long)) (rmE (d + 1)) [.ref na, .ref v] (fun H => eCallS l E P d ∧ eCallA l E P d ∧ va_at E.1 E.2.1 (v, .inl (E.2.2.2.1 0, 38, .inl f)) H ∧ va_at E.1 E.2.1 (na, .inr (10, [.ref b1, .ref b2, .ref b3])) H ∧ NodeAt E P d false b1 u1 H ∧ (u1 f).toInt32 = c1 ∧ NodeAt E P d true b2 u2 H ∧ u2 f = c2 ∧ NodeAt E P d true b3 u3 H ∧ u3 f = c3) (some (.long y)) := by
  refine e_met hcl (own := RX11) (by decide) rfl (Nat.le_of_ble_eq_true rfl) (fun p e s m args below meth c hC hF => ?_)
  have hC := And.intro hC hF
  intro ls hl
  have hx := hC.1.1.1
  have hb := hC.1.1.2.1
  have hown := hC.1.1.2.2.2.2.2.1
  have hts := hC.1.1.2.2.2.2.2.2
  obtain ⟨hIS, hIA, hV, hA, h1, e1, h2, e2, h3, e3⟩ := hC.2
  have hl : lv_has ls 2 [(0, .ref na), (1, .ref v)] := hl
  unfold fX11_of at hE
  refine lv_aload_n hx hb dX11_of_0 rfl (lv_at hl 0 rfl) ?_
  refine e_get (k := 0) (D := RX11) hC.1 hA in_X11 (ci := 10) rfl (by decide) q707 rfl rfl dX11_of_1 ?_
  refine lv_aload_n hx hb dX11_of_4 rfl (lv_at hl 1 rfl) ?_
  refine hIA q923 hC.1 hV h1 e1 hl.1 (by show d + 5 ≤ d + 1 + 4; omega) (by show d * 40 + 240 ≤ (d + 1) * 40 + 200; omega) (lv_room (Nat.le_of_ble_eq_true rfl)) ⟨Nat.zero_le _, Nat.zero_le _⟩ dX11_of_5 ?_
  refine lv_if_eq (tgt := 26) hx hb dX11_of_10 (by decide) (fun c_1 => ?_) (fun c_1 => ?_)
  · have hE := ip c_1 hE
    refine lv_aload_n hx hb dX11_of_26 rfl (lv_at hl 0 rfl) ?_
    refine e_get (k := 2) (D := RX11) hC.1 hA in_X11 (ci := 10) rfl (by decide) q709 rfl rfl dX11_of_27 ?_
    refine lv_aload_n hx hb dX11_of_30 rfl (lv_at hl 1 rfl) ?_
    refine hIS q991 hC.1 hV h3 e3 hl.1 (by show d + 5 ≤ d + 1 + 4; omega) (by show d * 40 + 240 ≤ (d + 1) * 40 + 200; omega) (lv_room (Nat.le_of_ble_eq_true rfl)) ⟨Nat.zero_le _, Nat.zero_le _⟩ dX11_of_31 ?_
    obtain rfl := Option.some.inj hE
    exact s_lret hC.1.1 dX11_of_36
  · have hE := iq c_1 hE
    refine lv_aload_n hx hb dX11_of_13 rfl (lv_at hl 0 rfl) ?_
    refine e_get (k := 1) (D := RX11) hC.1 hA in_X11 (ci := 10) rfl (by decide) q708 rfl rfl dX11_of_14 ?_
    refine lv_aload_n hx hb dX11_of_17 rfl (lv_at hl 1 rfl) ?_
    refine hIS q991 hC.1 hV h2 e2 hl.1 (by show d + 5 ≤ d + 1 + 4; omega) (by show d * 40 + 240 ≤ (d + 1) * 40 + 200; omega) (lv_room (Nat.le_of_ble_eq_true rfl)) ⟨Nat.zero_le _, Nat.zero_le _⟩ dX11_of_18 ?_
    refine lv_goto (tgt := 36) hx hb dX11_of_23 (by decide) ?_
    obtain rfl := Option.some.inj hE
    exact s_lret hC.1.1 dX11_of_36
set_option maxHeartbeats 1000000 in
theorem wX6_of_J120 {p : Program} {l : Launch} {e : Env} {s : State} {m : MethodId} {args : Array Value} {below : List Frame} {meth : Method} {c : Code} {E : XE} {P : Nat → Prop} {d na : Nat} {v : Nat} {f : Nat → Int32} {b1 : Nat} {u1 : SemF} {l1 : Nat} {ea1 : Nat} {cap1 : Nat} {mc1 : Int32} {g1 : Nat → Option Nat} {l2 : Nat} {ea2 : Nat} {cap2 : Nat} {mc2 : Int32} {g2 : Nat → Option Nat} {Q : State → Prop} (k : Nat) (c1 : Int64) (n : Int32) (cs : Nat → Int64) (ss : Nat → Int32) (x4 : Int32) (t0 : Int64) (hC : eC E RX6 cX6_of 10 (some .long) p s m args meth c ∧ eCallS l E P d ∧ eCallA l E P d ∧ va_at E.1 E.2.1 (v, .inl (E.2.2.2.1 0, 38, .inl f)) s.heap ∧ va_at E.1 E.2.1 (na, .inr (5, [.ref b1, .ref l1, .ref l2])) s.heap ∧ NodeAt E P d true b1 u1 s.heap ∧ u1 f = c1 ∧ LAt E l1 ea1 cap1 mc1 n g1 s.heap ∧ (∀ i : Int32, ¬ i < 0 → i < n → i.toNatClampNeg < cap1 ∧ ∃ x u, g1 i.toNatClampNeg = some x ∧ NodeAt E P d true x u s.heap ∧ u f = cs i.toNatClampNeg) ∧ LAt E l2 ea2 cap2 mc2 n g2 s.heap ∧ (∀ i : Int32, ¬ i < 0 → i < n → i.toNatClampNeg < cap2 ∧ ∃ x, g2 i.toNatClampNeg = some x ∧ wOB E x 17 [.int (ss i.toNatClampNeg)] s.heap)) (y : (Int64 × Int32) ⊕ Int64) (hE : fX6_of_J120 k c1 n cs ss x4 t0 = some y) (hc : ∀ a : Int64 × Int32, y = .inl a → sW p l e (rmE (d + 1)) s m args below meth c 10 Q 14 [(0, .ref na), (1, .ref v), (2, .long a.1), (4, .int a.2)] []) (hx1 : ∀ b : Int64, y = .inr b → sW p l e (rmE (d + 1)) s m args below meth c 10 Q 143 [(2, .long b)] []) : sW p l e (rmE (d + 1)) s m args below meth c 10 Q 120 [(0, .ref na), (1, .ref v), (4, .int x4)] [.long t0] := by
  intro ls hl
  have hx := hC.1.1.1
  have hb := hC.1.1.2.1
  have hown := hC.1.1.2.2.2.2.2.1
  have hts := hC.1.1.2.2.2.2.2.2
  obtain ⟨hIS, hIA, hV, hA, h1, e1, hL1, hx1_, hL2, hx2_⟩ := hC.2
  unfold fX6_of_J120 at hE
  refine lv_lstore (lv' := [(8, .long t0), (0, .ref na), (1, .ref v), (4, .int x4)]) hx hb dX6_of_120 hl (Nat.le_of_ble_eq_true rfl) rfl (fun ls hl => ?_)
  refine lv_ldc2 (v := -1000000) hx hb hown (hts _ q1000) dX6_of_122 ?_
  refine lv_ldc2 (v := 1000000) hx hb hown (hts _ q1001) dX6_of_125 ?_
  refine lv_lload hx hb dX6_of_128 (lv_at hl 0 rfl) ?_
  refine va_mmin_long hx hb (hC.1.1.2.2.2.2.1.trans hl.1.symm) hown (hts _ q1002) (hts _ q1003) (hts _ q135) (hts _ q1004) (Nat.le_trans (m := 5) (Nat.le_of_ble_eq_true rfl) (eR5 d)) (Nat.le_trans (m := 200) (Nat.le_of_ble_eq_true rfl) (eR200 d)) (Nat.zero_le _) (Nat.zero_le _) dX6_of_130 ?_
  refine va_mmax_long hx hb (hC.1.1.2.2.2.2.1.trans hl.1.symm) hown (hts _ q1005) (hts _ q1006) (hts _ q135) (hts _ q1007) (Nat.le_trans (m := 5) (Nat.le_of_ble_eq_true rfl) (eR5 d)) (Nat.le_trans (m := 200) (Nat.le_of_ble_eq_true rfl) (eR200 d)) (Nat.zero_le _) (Nat.zero_le _) dX6_of_133 ?_
  refine nm_l hE (fun v_9 ev_9 hE => ?_)
  refine lv_lstore_n (lv' := [(2, .long v_9), (8, .long t0), (0, .ref na), (1, .ref v), (4, .int x4)]) hx hb dX6_of_136 rfl hl (Nat.le_of_ble_eq_true rfl) rfl (fun ls hl => ?_)
  refine lv_iinc (v := (x4 + (1 : Int32))) (lv' := [(4, .int (x4 + (1 : Int32))), (2, .long v_9), (8, .long t0), (0, .ref na), (1, .ref v)]) hx hb dX6_of_137 hl (k := 4) rfl rfl (Nat.le_of_ble_eq_true rfl) rfl (fun ls hl => ?_)
  refine lv_goto (tgt := 14) hx hb dX6_of_140 (by decide) ?_
  exact hc _ (Option.some.inj hE).symm ls (lv_sub hl [3, 4, 1, 0] rfl)
set_option maxHeartbeats 1000000 in
theorem wX6_of_B14 {p : Program} {l : Launch} {e : Env} {s : State} {m : MethodId} {args : Array Value} {below : List Frame} {meth : Method} {c : Code} {E : XE} {P : Nat → Prop} {d na : Nat} {v : Nat} {f : Nat → Int32} {b1 : Nat} {u1 : SemF} {l1 : Nat} {ea1 : Nat} {cap1 : Nat} {mc1 : Int32} {g1 : Nat → Option Nat} {l2 : Nat} {ea2 : Nat} {cap2 : Nat} {mc2 : Int32} {g2 : Nat → Option Nat} {Q : State → Prop} (k : Nat) (c1 : Int64) (n : Int32) (cs : Nat → Int64) (ss : Nat → Int32)  (hC : eC E RX6 cX6_of 10 (some .long) p s m args meth c ∧ eCallS l E P d ∧ eCallA l E P d ∧ va_at E.1 E.2.1 (v, .inl (E.2.2.2.1 0, 38, .inl f)) s.heap ∧ va_at E.1 E.2.1 (na, .inr (5, [.ref b1, .ref l1, .ref l2])) s.heap ∧ NodeAt E P d true b1 u1 s.heap ∧ u1 f = c1 ∧ LAt E l1 ea1 cap1 mc1 n g1 s.heap ∧ (∀ i : Int32, ¬ i < 0 → i < n → i.toNatClampNeg < cap1 ∧ ∃ x u, g1 i.toNatClampNeg = some x ∧ NodeAt E P d true x u s.heap ∧ u f = cs i.toNatClampNeg) ∧ LAt E l2 ea2 cap2 mc2 n g2 s.heap ∧ (∀ i : Int32, ¬ i < 0 → i < n → i.toNatClampNeg < cap2 ∧ ∃ x, g2 i.toNatClampNeg = some x ∧ wOB E x 17 [.int (ss i.toNatClampNeg)] s.heap)) (a : Int64 × Int32) (y : (Int64 × Int32) ⊕ Int64) (hE : fX6_of_B14 k c1 n cs ss  a = some y) (hc : ∀ a : Int64 × Int32, y = .inl a → sW p l e (rmE (d + 1)) s m args below meth c 10 Q 14 [(0, .ref na), (1, .ref v), (2, .long a.1), (4, .int a.2)] []) (hx1 : ∀ b : Int64, y = .inr b → sW p l e (rmE (d + 1)) s m args below meth c 10 Q 143 [(2, .long b)] []) : sW p l e (rmE (d + 1)) s m args below meth c 10 Q 14 [(0, .ref na), (1, .ref v), (2, .long a.1), (4, .int a.2)] [] := by
  intro ls hl
  have hx := hC.1.1.1
  have hb := hC.1.1.2.1
  have hown := hC.1.1.2.2.2.2.2.1
  have hts := hC.1.1.2.2.2.2.2.2
  obtain ⟨hIS, hIA, hV, hA, h1, e1, hL1, hx1_, hL2, hx2_⟩ := hC.2
  unfold fX6_of_B14 at hE
  refine lv_iload hx hb dX6_of_14 (lv_at hl 3 rfl) ?_
  refine lv_aload_n hx hb dX6_of_16 rfl (lv_at hl 0 rfl) ?_
  refine e_get (k := 1) (D := RX6) hC.1 hA in_X6 (ci := 5) rfl (by decide) q781 rfl rfl dX6_of_17 ?_
  refine e_callV [] l1 hC.1 hl.1 (wJ3_size hC.1.2.2.1) hL1 (e_recvW hC.1 hL1.1 (hC.1.2.2.1 16 _ rfl)) (cwV 0 hts (lw_V q992 q668 q669 q130 q670) rfl rfl rfl cdJ3_size ⟨Nat.le_trans (m := 5) (Nat.le_of_ble_eq_true rfl) (eR5 d), Nat.le_trans (m := 200) (Nat.le_of_ble_eq_true rfl) (eR200 d)⟩) rfl rfl (lv_room (Nat.le_of_ble_eq_true rfl)) ⟨Nat.zero_le _, Nat.zero_le _⟩ dX6_of_20 ?_
  show W p l e _ s m args below meth c s.heap [] 0 0 _ (F0 m _ ls (.int n :: .int a.2 :: []))
  refine lv_icmp_ge (tgt := 143) hx hb dX6_of_23 (by decide) (fun c_1 => ?_) (fun c_1 => ?_)
  · have hE := ip c_1 hE
    exact hx1 _ (Option.some.inj hE).symm ls (lv_sub hl [2] rfl)
  · have hE := iq c_1 hE
    refine lv_aload_n hx hb dX6_of_26 rfl (lv_at hl 0 rfl) ?_
    refine e_get (k := 1) (D := RX6) hC.1 hA in_X6 (ci := 5) rfl (by decide) q781 rfl rfl dX6_of_27 ?_
    refine lv_iload hx hb dX6_of_30 (lv_at hl 3 rfl) ?_
    obtain ⟨c_2, hE⟩ := og hE
    have d1_2 : ¬ a.2 < 0 := fun h => c_2 (Or.inl h)
    have d2_2 : a.2 < n := Int32.not_le.mp fun h => c_2 (Or.inr h)
    obtain ⟨g1_2, x_2, u_2, g2_2, g3_2, g4_2⟩ := hx1_ a.2 d1_2 d2_2
    refine e_callV [.int a.2] l1 hC.1 hl.1 (wJ3_get hC.1.2.2.1 d1_2 d2_2 g1_2 g2_2) hL1 (e_recvW hC.1 hL1.1 (hC.1.2.2.1 16 _ rfl)) (cwV 1 hts (lw_V q993 q672 q673 q130 q674) rfl rfl rfl cdJ3_get ⟨Nat.le_trans (m := 5) (Nat.le_of_ble_eq_true rfl) (eR5 d), Nat.le_trans (m := 200) (Nat.le_of_ble_eq_true rfl) (eR200 d)⟩) rfl rfl (lv_room (Nat.le_of_ble_eq_true rfl)) ⟨Nat.zero_le _, Nat.zero_le _⟩ dX6_of_32 ?_
    show W p l e _ s m args below meth c s.heap [] 0 0 _ (F0 m _ ls (.ref x_2 :: []))
    refine e_castS hC.1 g3_2 q994 dX6_of_35 ?_
    refine lv_aload_n hx hb dX6_of_38 rfl (lv_at hl 1 rfl) ?_
    refine hIS q915 hC.1 hV g3_2 g4_2 hl.1 (by show d + 5 ≤ d + 1 + 4; omega) (by show d * 40 + 240 ≤ (d + 1) * 40 + 200; omega) (lv_room (Nat.le_of_ble_eq_true rfl)) ⟨Nat.zero_le _, Nat.zero_le _⟩ dX6_of_39 ?_
    refine lv_lstore (lv' := [(5, .long (cs a.2.toNatClampNeg)), (0, .ref na), (1, .ref v), (2, .long a.1), (4, .int a.2)]) hx hb dX6_of_44 hl (Nat.le_of_ble_eq_true rfl) rfl (fun ls hl => ?_)
    refine lv_aload_n hx hb dX6_of_46 rfl (lv_at hl 1 rfl) ?_
    refine e_get (k := 2) (D := RX6) hC.1 hA in_X6 (ci := 5) rfl (by decide) q782 rfl rfl dX6_of_47 ?_
    refine lv_iload hx hb dX6_of_50 (lv_at hl 4 rfl) ?_
    obtain ⟨c_3, hE⟩ := og hE
    have d1_3 : ¬ a.2 < 0 := fun h => c_3 (Or.inl h)
    have d2_3 : a.2 < n := Int32.not_le.mp fun h => c_3 (Or.inr h)
    obtain ⟨g1_3, x_3, g2_3, g3_3⟩ := hx2_ a.2 d1_3 d2_3
    refine e_callV [.int a.2] l2 hC.1 hl.1 (wJ3_get hC.1.2.2.1 d1_3 d2_3 g1_3 g2_3) hL2 (e_recvW hC.1 hL2.1 (hC.1.2.2.1 16 _ rfl)) (cwV 1 hts (lw_V q993 q672 q673 q130 q674) rfl rfl rfl cdJ3_get ⟨Nat.le_trans (m := 5) (Nat.le_of_ble_eq_true rfl) (eR5 d), Nat.le_trans (m := 200) (Nat.le_of_ble_eq_true rfl) (eR200 d)⟩) rfl rfl (lv_room (Nat.le_of_ble_eq_true rfl)) ⟨Nat.zero_le _, Nat.zero_le _⟩ dX6_of_52 ?_
    show W p l e _ s m args below meth c s.heap [] 0 0 _ (F0 m _ ls (.ref x_3 :: []))
    refine va_castS hx hb hown (hts _ q995) (hC.1.2.1.1 17 _ (hC.1.2.2.1 17 _ rfl)).2 (e_recvW hC.1 g3_3 (hC.1.2.2.1 17 _ rfl)) dX6_of_55 ?_
    refine e_callV [] x_3 hC.1 hl.1 (wJ15_intValue hC.1.2.2.1) g3_3 (e_recvW hC.1 g3_3 (hC.1.2.2.1 17 _ rfl)) (cwV 0 hts (lw_V q996 q997 q998 q153 q999) rfl rfl rfl cdJ15_intValue ⟨Nat.le_trans (m := 5) (Nat.le_of_ble_eq_true rfl) (eR5 d), Nat.le_trans (m := 200) (Nat.le_of_ble_eq_true rfl) (eR200 d)⟩) rfl rfl (lv_room (Nat.le_of_ble_eq_true rfl)) ⟨Nat.zero_le _, Nat.zero_le _⟩ dX6_of_58 ?_
    show W p l e _ s m args below meth c s.heap [] 0 0 _ (F0 m _ ls (.int (ss a.2.toNatClampNeg) :: []))
    refine lv_istore (lv' := [(7, .int (ss a.2.toNatClampNeg)), (5, .long (cs a.2.toNatClampNeg)), (0, .ref na), (1, .ref v), (2, .long a.1), (4, .int a.2)]) hx hb dX6_of_61 hl (Nat.le_of_ble_eq_true rfl) rfl (fun ls hl => ?_)
    refine lv_iload hx hb dX6_of_63 (lv_at hl 0 rfl) ?_
    refine lv_bipush (v := 43) hx hb dX6_of_65 (by decide) ?_
    refine lv_icmp_ne (tgt := 77) hx hb dX6_of_67 (by decide) (fun c_4 => ?_) (fun c_4 => ?_)
    · have hE := iq c_4 hE
      refine lv_iload hx hb dX6_of_77 (lv_at hl 0 rfl) ?_
      refine lv_bipush (v := 45) hx hb dX6_of_79 (by decide) ?_
      refine lv_icmp_ne (tgt := 91) hx hb dX6_of_81 (by decide) (fun c_5 => ?_) (fun c_5 => ?_)
      · have hE := iq c_5 hE
        refine lv_iload hx hb dX6_of_91 (lv_at hl 0 rfl) ?_
        refine lv_bipush (v := 42) hx hb dX6_of_93 (by decide) ?_
        refine lv_icmp_ne (tgt := 105) hx hb dX6_of_95 (by decide) (fun c_6 => ?_) (fun c_6 => ?_)
        · have hE := iq c_6 hE
          refine lv_lload hx hb dX6_of_105 (lv_at hl 1 rfl) ?_
          refine lv_lconst (v := 0) hx hb dX6_of_107 (by decide) ?_
          refine W.lcmp hx hb dX6_of_108 ?_
          refine lv_if_ne (tgt := 116) hx hb dX6_of_109 (by decide) (fun c_7 => ?_) (fun c_7 => ?_)
          · have hE := iq c_7 hE
            refine lv_lload_n hx hb dX6_of_116 rfl (lv_at hl 4 rfl) ?_
            refine lv_lload hx hb dX6_of_117 (lv_at hl 1 rfl) ?_
            obtain ⟨c_8, hE⟩ := og hE
            refine lv_ldiv hx hb dX6_of_119 c_8 ?_
            exact wX6_of_J120 k c1 n cs ss a.2 (a.1 / (cs a.2.toNatClampNeg)) hC y hE hc hx1 ls (lv_sub hl [2, 3, 5] rfl)
          · have hE := ip c_7 hE
            refine lv_lconst (v := 0) hx hb dX6_of_112 (by decide) ?_
            refine lv_goto (tgt := 120) hx hb dX6_of_113 (by decide) ?_
            exact wX6_of_J120 k c1 n cs ss a.2 (0 : Int64) hC y hE hc hx1 ls (lv_sub hl [2, 3, 5] rfl)
        · have hE := ip c_6 hE
          refine lv_lload_n hx hb dX6_of_98 rfl (lv_at hl 4 rfl) ?_
          refine lv_lload hx hb dX6_of_99 (lv_at hl 1 rfl) ?_
          refine lv_lmul hx hb dX6_of_101 ?_
          refine lv_goto (tgt := 120) hx hb dX6_of_102 (by decide) ?_
          exact wX6_of_J120 k c1 n cs ss a.2 (a.1 * (cs a.2.toNatClampNeg)) hC y hE hc hx1 ls (lv_sub hl [2, 3, 5] rfl)
      · have hE := ip c_5 hE
        refine lv_lload_n hx hb dX6_of_84 rfl (lv_at hl 4 rfl) ?_
        refine lv_lload hx hb dX6_of_85 (lv_at hl 1 rfl) ?_
        refine lv_lsub hx hb dX6_of_87 ?_
        refine lv_goto (tgt := 120) hx hb dX6_of_88 (by decide) ?_
        exact wX6_of_J120 k c1 n cs ss a.2 (a.1 - (cs a.2.toNatClampNeg)) hC y hE hc hx1 ls (lv_sub hl [2, 3, 5] rfl)
    · have hE := ip c_4 hE
      refine lv_lload_n hx hb dX6_of_70 rfl (lv_at hl 4 rfl) ?_
      refine lv_lload hx hb dX6_of_71 (lv_at hl 1 rfl) ?_
      refine lv_ladd hx hb dX6_of_73 ?_
      refine lv_goto (tgt := 120) hx hb dX6_of_74 (by decide) ?_
      exact wX6_of_J120 k c1 n cs ss a.2 (a.1 + (cs a.2.toNatClampNeg)) hC y hE hc hx1 ls (lv_sub hl [2, 3, 5] rfl)
set_option maxHeartbeats 1000000 in
theorem wX6_of {l : Launch} {E : XE} {P : Nat → Prop} {d na : Nat} {v : Nat} {f : Nat → Int32} {b1 : Nat} {u1 : SemF} {l1 : Nat} {ea1 : Nat} {cap1 : Nat} {mc1 : Int32} {g1 : Nat → Option Nat} {l2 : Nat} {ea2 : Nat} {cap2 : Nat} {mc2 : Int32} {g2 : Nat → Option Nat} (hcl : xCl E) (k : Nat) (c1 : Int64) (n : Int32) (cs : Nat → Int64) (ss : Nat → Int32) (y : Int64) (hE : fX6_of k c1 n cs ss = some y) : eM l E yX6_of (ws_ yX6_of cX6_of 10 (some .long)) (rmE (d + 1)) [.ref na, .ref v] (fun H => eCallS l E P d ∧ eCallA l E P d ∧ va_at E.1 E.2.1 (v, .inl (E.2.2.2.1 0, 38, .inl f)) H ∧ va_at E.1 E.2.1 (na, .inr (5, [.ref b1, .ref l1, .ref l2])) H ∧ NodeAt E P d true b1 u1 H ∧ u1 f = c1 ∧ LAt E l1 ea1 cap1 mc1 n g1 H ∧ (∀ i : Int32, ¬ i < 0 → i < n → i.toNatClampNeg < cap1 ∧ ∃ x u, g1 i.toNatClampNeg = some x ∧ NodeAt E P d true x u H ∧ u f = cs i.toNatClampNeg) ∧ LAt E l2 ea2 cap2 mc2 n g2 H ∧ (∀ i : Int32, ¬ i < 0 → i < n → i.toNatClampNeg < cap2 ∧ ∃ x, g2 i.toNatClampNeg = some x ∧ wOB E x 17 [.int (ss i.toNatClampNeg)] H)) (some (.long y)) := by
  refine e_met hcl (own := RX6) (by decide) rfl (Nat.le_of_ble_eq_true rfl) (fun p e s m args below meth c hC hF => ?_)
  have hC := And.intro hC hF
  intro ls hl
  have hx := hC.1.1.1
  have hb := hC.1.1.2.1
  have hown := hC.1.1.2.2.2.2.2.1
  have hts := hC.1.1.2.2.2.2.2.2
  obtain ⟨hIS, hIA, hV, hA, h1, e1, hL1, hx1_, hL2, hx2_⟩ := hC.2
  have hl : lv_has ls 10 [(0, .ref na), (1, .ref v)] := hl
  unfold fX6_of at hE
  refine lv_aload_n hx hb dX6_of_0 rfl (lv_at hl 0 rfl) ?_
  refine e_get (k := 0) (D := RX6) hC.1 hA in_X6 (ci := 5) rfl (by decide) q780 rfl rfl dX6_of_1 ?_
  refine lv_aload_n hx hb dX6_of_4 rfl (lv_at hl 1 rfl) ?_
  refine hIS q915 hC.1 hV h1 e1 hl.1 (by show d + 5 ≤ d + 1 + 4; omega) (by show d * 40 + 240 ≤ (d + 1) * 40 + 200; omega) (lv_room (Nat.le_of_ble_eq_true rfl)) ⟨Nat.zero_le _, Nat.zero_le _⟩ dX6_of_5 ?_
  refine lv_lstore_n (lv' := [(2, .long c1), (0, .ref na), (1, .ref v)]) hx hb dX6_of_10 rfl hl (Nat.le_of_ble_eq_true rfl) rfl (fun ls hl => ?_)
  refine lv_iconst (v := 0) hx hb dX6_of_11 (by decide) ?_
  refine lv_istore (lv' := [(4, .int (0 : Int32)), (2, .long c1), (0, .ref na), (1, .ref v)]) hx hb dX6_of_12 hl (Nat.le_of_ble_eq_true rfl) rfl (fun ls hl => ?_)
  obtain ⟨x_10, h_10, hE⟩ := ob hE
  refine lpo_walk (fun p_10 : Int64 × Int32 => sW p l e (rmE (d + 1)) s m args below meth c 10 (sQ below args s (some (.long y))) 14 [(0, .ref na), (1, .ref v), (2, .long p_10.1), (4, .int p_10.2)] []) (fun q_10 : Int64 => sW p l e (rmE (d + 1)) s m args below meth c 10 (sQ below args s (some (.long y))) 143 [(2, .long q_10)] []) (fun a_10 y_10 hB_10 hc_10 hx_10 => wX6_of_B14 k c1 n cs ss  hC a_10 y_10 hB_10 hc_10 hx_10) _ _ x_10 h_10 ?_ ls (lv_sub hl [2, 3, 1, 0] rfl)
  intro ls hl
  refine lv_lload_n hx hb dX6_of_143 rfl (lv_at hl 0 rfl) ?_
  obtain rfl := Option.some.inj hE
  exact s_lret hC.1.1 dX6_of_144
set_option maxHeartbeats 1000000 in
theorem wX9_is {l : Launch} {E : XE} {P : Nat → Prop} {d na : Nat} {v : Nat} {f : Nat → Int32} {b1 : Nat} {u1 : SemF} {b2 : Nat} {u2 : SemF} (hcl : xCl E) (n : Int32) (c1 : Int64) (c2 : Int64) (y : Int32) (hE : fX9_is n c1 c2 = some y) : eM l E yX9_is (ws_ yX9_is cX9_is 4 (some .boolean)) (rmE (d + 1)) [.ref na, .ref v] (fun H => eCallS l E P d ∧ eCallA l E P d ∧ va_at E.1 E.2.1 (v, .inl (E.2.2.2.1 0, 38, .inl f)) H ∧ va_at E.1 E.2.1 (na, .inr (8, [.int n, .ref b1, .ref b2])) H ∧ NodeAt E P d true b1 u1 H ∧ u1 f = c1 ∧ NodeAt E P d true b2 u2 H ∧ u2 f = c2) (some (.int y)) := by
  refine e_met hcl (own := RX9) (by decide) rfl (Nat.le_of_ble_eq_true rfl) (fun p e s m args below meth c hC hF => ?_)
  have hC := And.intro hC hF
  intro ls hl
  have hx := hC.1.1.1
  have hb := hC.1.1.2.1
  have hown := hC.1.1.2.2.2.2.2.1
  have hts := hC.1.1.2.2.2.2.2.2
  obtain ⟨hIS, hIA, hV, hA, h1, e1, h2, e2⟩ := hC.2
  have hl : lv_has ls 4 [(0, .ref na), (1, .ref v)] := hl
  unfold fX9_is at hE
  refine lv_aload_n hx hb dX9_is_0 rfl (lv_at hl 0 rfl) ?_
  refine e_get (k := 1) (D := RX9) hC.1 hA in_X9 (ci := 8) rfl (by decide) q596 rfl rfl dX9_is_1 ?_
  refine lv_aload_n hx hb dX9_is_4 rfl (lv_at hl 1 rfl) ?_
  refine hIS q944 hC.1 hV h1 e1 hl.1 (by show d + 5 ≤ d + 1 + 4; omega) (by show d * 40 + 240 ≤ (d + 1) * 40 + 200; omega) (lv_room (Nat.le_of_ble_eq_true rfl)) ⟨Nat.zero_le _, Nat.zero_le _⟩ dX9_is_5 ?_
  refine lv_aload_n hx hb dX9_is_10 rfl (lv_at hl 0 rfl) ?_
  refine e_get (k := 2) (D := RX9) hC.1 hA in_X9 (ci := 8) rfl (by decide) q597 rfl rfl dX9_is_11 ?_
  refine lv_aload_n hx hb dX9_is_14 rfl (lv_at hl 1 rfl) ?_
  refine hIS q944 hC.1 hV h2 e2 hl.1 (by show d + 5 ≤ d + 1 + 4; omega) (by show d * 40 + 240 ≤ (d + 1) * 40 + 200; omega) (lv_room (Nat.le_of_ble_eq_true rfl)) ⟨Nat.zero_le _, Nat.zero_le _⟩ dX9_is_15 ?_
  refine lv_lsub hx hb dX9_is_20 ?_
  refine lv_lstore_n (lv' := [(2, .long (c1 - c2)), (0, .ref na), (1, .ref v)]) hx hb dX9_is_21 rfl hl (Nat.le_of_ble_eq_true rfl) rfl (fun ls hl => ?_)
  refine lv_aload_n hx hb dX9_is_22 rfl (lv_at hl 1 rfl) ?_
  refine e_get (k := 0) (D := RX9) hC.1 hA in_X9 (ci := 8) rfl (by decide) q595 rfl rfl dX9_is_23 ?_
  by_cases c_1_0 : n = (35 : Int32)
  · have hE := ip c_1_0 hE
    refine lv_lookup (tgt := 112) (off := 86) hx hb dX9_is_26 (by decide) (by rw [c_1_0]; decide) (by decide) ?_
    refine lv_lload_n hx hb dX9_is_112 rfl (lv_at hl 0 rfl) ?_
    refine lv_lconst (v := 0) hx hb dX9_is_113 (by decide) ?_
    refine W.lcmp hx hb dX9_is_114 ?_
    refine lv_if_eq (tgt := 122) hx hb dX9_is_115 (by decide) (fun c_2 => ?_) (fun c_2 => ?_)
    · have hE := ip c_2 hE
      refine lv_iconst (v := 0) hx hb dX9_is_122 (by decide) ?_
      obtain rfl := Option.some.inj hE
      exact s_zret (v := (0 : Int32)) hC.1.1 (by decide) dX9_is_123
    · have hE := iq c_2 hE
      refine lv_iconst (v := 1) hx hb dX9_is_118 (by decide) ?_
      refine lv_goto (tgt := 123) hx hb dX9_is_119 (by decide) ?_
      obtain rfl := Option.some.inj hE
      exact s_zret (v := (1 : Int32)) hC.1.1 (by decide) dX9_is_123
  have hE := iq c_1_0 hE
  by_cases c_1_1 : n = (60 : Int32)
  · have hE := ip c_1_1 hE
    refine lv_lookup (tgt := 76) (off := 50) hx hb dX9_is_26 (by decide) (by rw [c_1_1]; decide) (by decide) ?_
    refine lv_lload_n hx hb dX9_is_76 rfl (lv_at hl 0 rfl) ?_
    refine lv_lconst (v := 0) hx hb dX9_is_77 (by decide) ?_
    refine W.lcmp hx hb dX9_is_78 ?_
    refine lv_if_ge (tgt := 86) hx hb dX9_is_79 (by decide) (fun c_3 => ?_) (fun c_3 => ?_)
    · have hE := ip c_3 hE
      refine lv_iconst (v := 0) hx hb dX9_is_86 (by decide) ?_
      obtain rfl := Option.some.inj hE
      exact s_zret (v := (0 : Int32)) hC.1.1 (by decide) dX9_is_87
    · have hE := iq c_3 hE
      refine lv_iconst (v := 1) hx hb dX9_is_82 (by decide) ?_
      refine lv_goto (tgt := 87) hx hb dX9_is_83 (by decide) ?_
      obtain rfl := Option.some.inj hE
      exact s_zret (v := (1 : Int32)) hC.1.1 (by decide) dX9_is_87
  have hE := iq c_1_1 hE
  by_cases c_1_2 : n = (61 : Int32)
  · have hE := ip c_1_2 hE
    refine lv_lookup (tgt := 100) (off := 74) hx hb dX9_is_26 (by decide) (by rw [c_1_2]; decide) (by decide) ?_
    refine lv_lload_n hx hb dX9_is_100 rfl (lv_at hl 0 rfl) ?_
    refine lv_lconst (v := 0) hx hb dX9_is_101 (by decide) ?_
    refine W.lcmp hx hb dX9_is_102 ?_
    refine lv_if_ne (tgt := 110) hx hb dX9_is_103 (by decide) (fun c_4 => ?_) (fun c_4 => ?_)
    · have hE := iq c_4 hE
      refine lv_iconst (v := 0) hx hb dX9_is_110 (by decide) ?_
      obtain rfl := Option.some.inj hE
      exact s_zret (v := (0 : Int32)) hC.1.1 (by decide) dX9_is_111
    · have hE := ip c_4 hE
      refine lv_iconst (v := 1) hx hb dX9_is_106 (by decide) ?_
      refine lv_goto (tgt := 111) hx hb dX9_is_107 (by decide) ?_
      obtain rfl := Option.some.inj hE
      exact s_zret (v := (1 : Int32)) hC.1.1 (by decide) dX9_is_111
  have hE := iq c_1_2 hE
  by_cases c_1_3 : n = (62 : Int32)
  · have hE := ip c_1_3 hE
    refine lv_lookup (tgt := 88) (off := 62) hx hb dX9_is_26 (by decide) (by rw [c_1_3]; decide) (by decide) ?_
    refine lv_lload_n hx hb dX9_is_88 rfl (lv_at hl 0 rfl) ?_
    refine lv_lconst (v := 0) hx hb dX9_is_89 (by decide) ?_
    refine W.lcmp hx hb dX9_is_90 ?_
    refine lv_if_le (tgt := 98) hx hb dX9_is_91 (by decide) (fun c_5 => ?_) (fun c_5 => ?_)
    · have hE := ip c_5 hE
      refine lv_iconst (v := 0) hx hb dX9_is_98 (by decide) ?_
      obtain rfl := Option.some.inj hE
      exact s_zret (v := (0 : Int32)) hC.1.1 (by decide) dX9_is_99
    · have hE := iq c_5 hE
      refine lv_iconst (v := 1) hx hb dX9_is_94 (by decide) ?_
      refine lv_goto (tgt := 99) hx hb dX9_is_95 (by decide) ?_
      obtain rfl := Option.some.inj hE
      exact s_zret (v := (1 : Int32)) hC.1.1 (by decide) dX9_is_99
  have hE := iq c_1_3 hE
  by_cases c_1_4 : n = (303 : Int32)
  · have hE := ip c_1_4 hE
    refine lv_lookup (tgt := 124) (off := 98) hx hb dX9_is_26 (by decide) (by rw [c_1_4]; decide) (by decide) ?_
    refine lv_lload_n hx hb dX9_is_124 rfl (lv_at hl 0 rfl) ?_
    refine lv_lconst (v := 0) hx hb dX9_is_125 (by decide) ?_
    refine W.lcmp hx hb dX9_is_126 ?_
    refine lv_if_gt (tgt := 134) hx hb dX9_is_127 (by decide) (fun c_6 => ?_) (fun c_6 => ?_)
    · have hE := ip c_6 hE
      refine lv_iconst (v := 0) hx hb dX9_is_134 (by decide) ?_
      obtain rfl := Option.some.inj hE
      exact s_zret (v := (0 : Int32)) hC.1.1 (by decide) dX9_is_135
    · have hE := iq c_6 hE
      refine lv_iconst (v := 1) hx hb dX9_is_130 (by decide) ?_
      refine lv_goto (tgt := 135) hx hb dX9_is_131 (by decide) ?_
      obtain rfl := Option.some.inj hE
      exact s_zret (v := (1 : Int32)) hC.1.1 (by decide) dX9_is_135
  have hE := iq c_1_4 hE
  refine lv_lookup (tgt := 136) (off := 110) hx hb dX9_is_26 (by decide) ((lv_osw c_1_0 (by decide)).trans ((lv_osw c_1_1 (by decide)).trans ((lv_osw c_1_2 (by decide)).trans ((lv_osw c_1_3 (by decide)).trans ((lv_osw c_1_4 (by decide)).trans (rfl)))))) (by decide) ?_
  refine lv_lload_n hx hb dX9_is_136 rfl (lv_at hl 0 rfl) ?_
  refine lv_lconst (v := 0) hx hb dX9_is_137 (by decide) ?_
  refine W.lcmp hx hb dX9_is_138 ?_
  refine lv_if_lt (tgt := 146) hx hb dX9_is_139 (by decide) (fun c_7 => ?_) (fun c_7 => ?_)
  · have hE := ip c_7 hE
    refine lv_iconst (v := 0) hx hb dX9_is_146 (by decide) ?_
    obtain rfl := Option.some.inj hE
    exact s_zret (v := (0 : Int32)) hC.1.1 (by decide) dX9_is_147
  · have hE := iq c_7 hE
    refine lv_iconst (v := 1) hx hb dX9_is_142 (by decide) ?_
    refine lv_goto (tgt := 147) hx hb dX9_is_143 (by decide) ?_
    obtain rfl := Option.some.inj hE
    exact s_zret (v := (1 : Int32)) hC.1.1 (by decide) dX9_is_147
set_option maxHeartbeats 1000000 in
theorem wX8_is {l : Launch} {E : XE} {P : Nat → Prop} {d na : Nat} {v : Nat} {f : Nat → Int32} {b1 : Nat} {u1 : SemF} (hcl : xCl E) (c1 : Int32) (y : Int32) (hE : fX8_is c1 = some y) : eM l E yX8_is (ws_ yX8_is cX8_is 2 (some .boolean)) (rmE (d + 1)) [.ref na, .ref v] (fun H => eCallS l E P d ∧ eCallA l E P d ∧ va_at E.1 E.2.1 (v, .inl (E.2.2.2.1 0, 38, .inl f)) H ∧ va_at E.1 E.2.1 (na, .inr (7, [.ref b1])) H ∧ NodeAt E P d false b1 u1 H ∧ (u1 f).toInt32 = c1) (some (.int y)) := by
  refine e_met hcl (own := RX8) (by decide) rfl (Nat.le_of_ble_eq_true rfl) (fun p e s m args below meth c hC hF => ?_)
  have hC := And.intro hC hF
  intro ls hl
  have hx := hC.1.1.1
  have hb := hC.1.1.2.1
  have hown := hC.1.1.2.2.2.2.2.1
  have hts := hC.1.1.2.2.2.2.2.2
  obtain ⟨hIS, hIA, hV, hA, h1, e1⟩ := hC.2
  have hl : lv_has ls 2 [(0, .ref na), (1, .ref v)] := hl
  unfold fX8_is at hE
  refine lv_aload_n hx hb dX8_is_0 rfl (lv_at hl 0 rfl) ?_
  refine e_get (k := 0) (D := RX8) hC.1 hA in_X8 (ci := 7) rfl (by decide) q585 rfl rfl dX8_is_1 ?_
  refine lv_aload_n hx hb dX8_is_4 rfl (lv_at hl 1 rfl) ?_
  refine hIA q989 hC.1 hV h1 e1 hl.1 (by show d + 5 ≤ d + 1 + 4; omega) (by show d * 40 + 240 ≤ (d + 1) * 40 + 200; omega) (lv_room (Nat.le_of_ble_eq_true rfl)) ⟨Nat.zero_le _, Nat.zero_le _⟩ dX8_is_5 ?_
  refine lv_if_ne (tgt := 17) hx hb dX8_is_10 (by decide) (fun c_1 => ?_) (fun c_1 => ?_)
  · have hE := iq c_1 hE
    refine lv_iconst (v := 0) hx hb dX8_is_17 (by decide) ?_
    obtain rfl := Option.some.inj hE
    exact s_zret (v := (0 : Int32)) hC.1.1 (by decide) dX8_is_18
  · have hE := ip c_1 hE
    refine lv_iconst (v := 1) hx hb dX8_is_13 (by decide) ?_
    refine lv_goto (tgt := 18) hx hb dX8_is_14 (by decide) ?_
    obtain rfl := Option.some.inj hE
    exact s_zret (v := (1 : Int32)) hC.1.1 (by decide) dX8_is_18
set_option maxHeartbeats 1000000 in
theorem wX10_is_B4 {p : Program} {l : Launch} {e : Env} {s : State} {m : MethodId} {args : Array Value} {below : List Frame} {meth : Method} {c : Code} {E : XE} {P : Nat → Prop} {d na : Nat} {v : Nat} {f : Nat → Int32} {l1 : Nat} {ea1 : Nat} {cap1 : Nat} {mc1 : Int32} {g1 : Nat → Option Nat} {Q : State → Prop} (k : Nat) (an : Int32) (n : Int32) (cs : Nat → Int32)  (hC : eC E RX10 cX10_is 4 (some .boolean) p s m args meth c ∧ eCallS l E P d ∧ eCallA l E P d ∧ va_at E.1 E.2.1 (v, .inl (E.2.2.2.1 0, 38, .inl f)) s.heap ∧ va_at E.1 E.2.1 (na, .inr (9, [.int an, .ref l1])) s.heap ∧ LAt E l1 ea1 cap1 mc1 n g1 s.heap ∧ (∀ i : Int32, ¬ i < 0 → i < n → i.toNatClampNeg < cap1 ∧ ∃ x u, g1 i.toNatClampNeg = some x ∧ NodeAt E P d false x u s.heap ∧ (u f).toInt32 = cs i.toNatClampNeg)) (a : Int32 × Int32) (y : (Int32 × Int32) ⊕ Int32) (hE : fX10_is_B4 k an n cs  a = some y) (hc : ∀ a : Int32 × Int32, y = .inl a → sW p l e (rmE (d + 1)) s m args below meth c 4 Q 4 [(0, .ref na), (1, .ref v), (2, .int a.1), (3, .int a.2)] []) (hx1 : ∀ b : Int32, y = .inr b → sW p l e (rmE (d + 1)) s m args below meth c 4 Q 49 [(0, .ref na), (2, .int b)] []) : sW p l e (rmE (d + 1)) s m args below meth c 4 Q 4 [(0, .ref na), (1, .ref v), (2, .int a.1), (3, .int a.2)] [] := by
  intro ls hl
  have hx := hC.1.1.1
  have hb := hC.1.1.2.1
  have hown := hC.1.1.2.2.2.2.2.1
  have hts := hC.1.1.2.2.2.2.2.2
  obtain ⟨hIS, hIA, hV, hA, hL1, hx1_⟩ := hC.2
  unfold fX10_is_B4 at hE
  refine lv_iload_n hx hb dX10_is_4 rfl (lv_at hl 3 rfl) ?_
  refine lv_aload_n hx hb dX10_is_5 rfl (lv_at hl 0 rfl) ?_
  refine e_get (k := 1) (D := RX10) hC.1 hA in_X10 (ci := 9) rfl (by decide) q691 rfl rfl dX10_is_6 ?_
  refine e_callV [] l1 hC.1 hl.1 (wJ3_size hC.1.2.2.1) hL1 (e_recvW hC.1 hL1.1 (hC.1.2.2.1 16 _ rfl)) (cwV 0 hts (lw_V q932 q668 q669 q130 q670) rfl rfl rfl cdJ3_size ⟨Nat.le_trans (m := 5) (Nat.le_of_ble_eq_true rfl) (eR5 d), Nat.le_trans (m := 200) (Nat.le_of_ble_eq_true rfl) (eR200 d)⟩) rfl rfl (lv_room (Nat.le_of_ble_eq_true rfl)) ⟨Nat.zero_le _, Nat.zero_le _⟩ dX10_is_9 ?_
  show W p l e _ s m args below meth c s.heap [] 0 0 _ (F0 m _ ls (.int n :: .int a.2 :: []))
  refine lv_icmp_ge (tgt := 49) hx hb dX10_is_12 (by decide) (fun c_1 => ?_) (fun c_1 => ?_)
  · have hE := ip c_1 hE
    exact hx1 _ (Option.some.inj hE).symm ls (lv_sub hl [0, 2] rfl)
  · have hE := iq c_1 hE
    refine lv_iload_n hx hb dX10_is_15 rfl (lv_at hl 2 rfl) ?_
    refine lv_aload_n hx hb dX10_is_16 rfl (lv_at hl 0 rfl) ?_
    refine e_get (k := 1) (D := RX10) hC.1 hA in_X10 (ci := 9) rfl (by decide) q691 rfl rfl dX10_is_17 ?_
    refine lv_iload_n hx hb dX10_is_20 rfl (lv_at hl 3 rfl) ?_
    obtain ⟨c_2, hE⟩ := og hE
    have d1_2 : ¬ a.2 < 0 := fun h => c_2 (Or.inl h)
    have d2_2 : a.2 < n := Int32.not_le.mp fun h => c_2 (Or.inr h)
    obtain ⟨g1_2, x_2, u_2, g2_2, g3_2, g4_2⟩ := hx1_ a.2 d1_2 d2_2
    refine e_callV [.int a.2] l1 hC.1 hl.1 (wJ3_get hC.1.2.2.1 d1_2 d2_2 g1_2 g2_2) hL1 (e_recvW hC.1 hL1.1 (hC.1.2.2.1 16 _ rfl)) (cwV 1 hts (lw_V q933 q672 q673 q130 q674) rfl rfl rfl cdJ3_get ⟨Nat.le_trans (m := 5) (Nat.le_of_ble_eq_true rfl) (eR5 d), Nat.le_trans (m := 200) (Nat.le_of_ble_eq_true rfl) (eR200 d)⟩) rfl rfl (lv_room (Nat.le_of_ble_eq_true rfl)) ⟨Nat.zero_le _, Nat.zero_le _⟩ dX10_is_21 ?_
    show W p l e _ s m args below meth c s.heap [] 0 0 _ (F0 m _ ls (.ref x_2 :: .int a.1 :: []))
    refine e_castA hC.1 g3_2 q934 dX10_is_24 ?_
    refine lv_aload_n hx hb dX10_is_27 rfl (lv_at hl 1 rfl) ?_
    refine hIA q936 hC.1 hV g3_2 g4_2 hl.1 (by show d + 5 ≤ d + 1 + 4; omega) (by show d * 40 + 240 ≤ (d + 1) * 40 + 200; omega) (lv_room (Nat.le_of_ble_eq_true rfl)) ⟨Nat.zero_le _, Nat.zero_le _⟩ dX10_is_28 ?_
    refine lv_if_eq (tgt := 40) hx hb dX10_is_33 (by decide) (fun c_3 => ?_) (fun c_3 => ?_)
    · have hE := ip c_3 hE
      refine lv_iconst (v := 0) hx hb dX10_is_40 (by decide) ?_
      refine lv_iadd hx hb dX10_is_41 ?_
      refine lv_istore_n (lv' := [(2, .int (a.1 + (0 : Int32))), (0, .ref na), (1, .ref v), (3, .int a.2)]) hx hb dX10_is_42 rfl hl (Nat.le_of_ble_eq_true rfl) rfl (fun ls hl => ?_)
      refine lv_iinc (v := (a.2 + (1 : Int32))) (lv' := [(3, .int (a.2 + (1 : Int32))), (2, .int (a.1 + (0 : Int32))), (0, .ref na), (1, .ref v)]) hx hb dX10_is_43 hl (k := 3) rfl rfl (Nat.le_of_ble_eq_true rfl) rfl (fun ls hl => ?_)
      refine lv_goto (tgt := 4) hx hb dX10_is_46 (by decide) ?_
      exact hc _ (Option.some.inj hE).symm ls (lv_sub hl [2, 3, 1, 0] rfl)
    · have hE := iq c_3 hE
      refine lv_iconst (v := 1) hx hb dX10_is_36 (by decide) ?_
      refine lv_goto (tgt := 41) hx hb dX10_is_37 (by decide) ?_
      refine lv_iadd hx hb dX10_is_41 ?_
      refine lv_istore_n (lv' := [(2, .int (a.1 + (1 : Int32))), (0, .ref na), (1, .ref v), (3, .int a.2)]) hx hb dX10_is_42 rfl hl (Nat.le_of_ble_eq_true rfl) rfl (fun ls hl => ?_)
      refine lv_iinc (v := (a.2 + (1 : Int32))) (lv' := [(3, .int (a.2 + (1 : Int32))), (2, .int (a.1 + (1 : Int32))), (0, .ref na), (1, .ref v)]) hx hb dX10_is_43 hl (k := 3) rfl rfl (Nat.le_of_ble_eq_true rfl) rfl (fun ls hl => ?_)
      refine lv_goto (tgt := 4) hx hb dX10_is_46 (by decide) ?_
      exact hc _ (Option.some.inj hE).symm ls (lv_sub hl [2, 3, 1, 0] rfl)
set_option maxHeartbeats 1000000 in
theorem wX10_is {l : Launch} {E : XE} {P : Nat → Prop} {d na : Nat} {v : Nat} {f : Nat → Int32} {l1 : Nat} {ea1 : Nat} {cap1 : Nat} {mc1 : Int32} {g1 : Nat → Option Nat} (hcl : xCl E) (k : Nat) (an : Int32) (n : Int32) (cs : Nat → Int32) (y : Int32) (hE : fX10_is k an n cs = some y) : eM l E yX10_is (ws_ yX10_is cX10_is 4 (some .boolean)) (rmE (d + 1)) [.ref na, .ref v] (fun H => eCallS l E P d ∧ eCallA l E P d ∧ va_at E.1 E.2.1 (v, .inl (E.2.2.2.1 0, 38, .inl f)) H ∧ va_at E.1 E.2.1 (na, .inr (9, [.int an, .ref l1])) H ∧ LAt E l1 ea1 cap1 mc1 n g1 H ∧ (∀ i : Int32, ¬ i < 0 → i < n → i.toNatClampNeg < cap1 ∧ ∃ x u, g1 i.toNatClampNeg = some x ∧ NodeAt E P d false x u H ∧ (u f).toInt32 = cs i.toNatClampNeg)) (some (.int y)) := by
  refine e_met hcl (own := RX10) (by decide) rfl (Nat.le_of_ble_eq_true rfl) (fun p e s m args below meth c hC hF => ?_)
  have hC := And.intro hC hF
  intro ls hl
  have hx := hC.1.1.1
  have hb := hC.1.1.2.1
  have hown := hC.1.1.2.2.2.2.2.1
  have hts := hC.1.1.2.2.2.2.2.2
  obtain ⟨hIS, hIA, hV, hA, hL1, hx1_⟩ := hC.2
  have hl : lv_has ls 4 [(0, .ref na), (1, .ref v)] := hl
  unfold fX10_is at hE
  refine lv_iconst (v := 0) hx hb dX10_is_0 (by decide) ?_
  refine lv_istore_n (lv' := [(2, .int (0 : Int32)), (0, .ref na), (1, .ref v)]) hx hb dX10_is_1 rfl hl (Nat.le_of_ble_eq_true rfl) rfl (fun ls hl => ?_)
  refine lv_iconst (v := 0) hx hb dX10_is_2 (by decide) ?_
  refine lv_istore_n (lv' := [(3, .int (0 : Int32)), (2, .int (0 : Int32)), (0, .ref na), (1, .ref v)]) hx hb dX10_is_3 rfl hl (Nat.le_of_ble_eq_true rfl) rfl (fun ls hl => ?_)
  obtain ⟨x_4, h_4, hE⟩ := ob hE
  refine lpo_walk (fun p_4 : Int32 × Int32 => sW p l e (rmE (d + 1)) s m args below meth c 4 (sQ below args s (some (.int y))) 4 [(0, .ref na), (1, .ref v), (2, .int p_4.1), (3, .int p_4.2)] []) (fun q_4 : Int32 => sW p l e (rmE (d + 1)) s m args below meth c 4 (sQ below args s (some (.int y))) 49 [(0, .ref na), (2, .int q_4)] []) (fun a_4 y_4 hB_4 hc_4 hx_4 => wX10_is_B4 k an n cs  hC a_4 y_4 hB_4 hc_4 hx_4) _ _ x_4 h_4 ?_ ls (lv_sub hl [2, 3, 1, 0] rfl)
  intro ls hl
  refine lv_aload_n hx hb dX10_is_49 rfl (lv_at hl 0 rfl) ?_
  refine e_get (k := 0) (D := RX10) hC.1 hA in_X10 (ci := 9) rfl (by decide) q690 rfl rfl dX10_is_50 ?_
  refine lv_if_eq (tgt := 75) hx hb dX10_is_53 (by decide) (fun c_5 => ?_) (fun c_5 => ?_)
  · have hE := ip c_5 hE
    refine lv_iload_n hx hb dX10_is_75 rfl (lv_at hl 1 rfl) ?_
    refine lv_if_le (tgt := 83) hx hb dX10_is_76 (by decide) (fun c_6 => ?_) (fun c_6 => ?_)
    · have hE := ip c_6 hE
      refine lv_iconst (v := 0) hx hb dX10_is_83 (by decide) ?_
      obtain rfl := Option.some.inj hE
      exact s_zret (v := (0 : Int32)) hC.1.1 (by decide) dX10_is_84
    · have hE := iq c_6 hE
      refine lv_iconst (v := 1) hx hb dX10_is_79 (by decide) ?_
      refine lv_goto (tgt := 84) hx hb dX10_is_80 (by decide) ?_
      obtain rfl := Option.some.inj hE
      exact s_zret (v := (1 : Int32)) hC.1.1 (by decide) dX10_is_84
  · have hE := iq c_5 hE
    refine lv_iload_n hx hb dX10_is_56 rfl (lv_at hl 1 rfl) ?_
    refine lv_aload_n hx hb dX10_is_57 rfl (lv_at hl 0 rfl) ?_
    refine e_get (k := 1) (D := RX10) hC.1 hA in_X10 (ci := 9) rfl (by decide) q691 rfl rfl dX10_is_58 ?_
    refine e_callV [] l1 hC.1 hl.1 (wJ3_size hC.1.2.2.1) hL1 (e_recvW hC.1 hL1.1 (hC.1.2.2.1 16 _ rfl)) (cwV 0 hts (lw_V q932 q668 q669 q130 q670) rfl rfl rfl cdJ3_size ⟨Nat.le_trans (m := 5) (Nat.le_of_ble_eq_true rfl) (eR5 d), Nat.le_trans (m := 200) (Nat.le_of_ble_eq_true rfl) (eR200 d)⟩) rfl rfl (lv_room (Nat.le_of_ble_eq_true rfl)) ⟨Nat.zero_le _, Nat.zero_le _⟩ dX10_is_61 ?_
    show W p l e _ s m args below meth c s.heap [] 0 0 _ (F0 m _ ls (.int n :: .int x_4 :: []))
    refine lv_icmp_ne (tgt := 71) hx hb dX10_is_64 (by decide) (fun c_7 => ?_) (fun c_7 => ?_)
    · have hE := iq c_7 hE
      refine lv_iconst (v := 0) hx hb dX10_is_71 (by decide) ?_
      refine lv_goto (tgt := 84) hx hb dX10_is_72 (by decide) ?_
      obtain rfl := Option.some.inj hE
      exact s_zret (v := (0 : Int32)) hC.1.1 (by decide) dX10_is_84
    · have hE := ip c_7 hE
      refine lv_iconst (v := 1) hx hb dX10_is_67 (by decide) ?_
      refine lv_goto (tgt := 84) hx hb dX10_is_68 (by decide) ?_
      obtain rfl := Option.some.inj hE
      exact s_zret (v := (1 : Int32)) hC.1.1 (by decide) dX10_is_84
