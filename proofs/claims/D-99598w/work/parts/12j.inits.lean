/-! constructors of the nodes -/
set_option maxRecDepth 100000
theorem wJ11_init {l : Launch} {E : XE} {a : Nat} : bM l E bNo yJ11_init (ws_ yJ11_init cJ11_init 1 none) { frames := 1, cells := 0, slots := 0, locals := 30 } [.ref a] (fun _ => True) (fun _ o _ => o = none) := by
  refine b_met (own := RJ11) (mn := "<init>") (by decide) rfl rfl (Nat.le_of_ble_eq_true rfl) (fun p e s m args below meth c hC hA ls hl hS => ?_)
  have hx := hC.1.1.1
  have hb := hC.1.1.2.1
  have hml := hC.1.1.2.2.2.2.1
  have hown := hC.1.1.2.2.2.2.2.1
  have hts := hC.1.1.2.2.2.2.2.2
  have hl : lv_has ls 1 [(0, .ref a)] := hl
  refine lv_aload_n hx hb dJ11_init_0 rfl (lv_at hl 0 rfl) ?_
  refine W.objInit hx hb hown (hts _ q552) (hts _ q162) (hts _ q163) rfl (by rw [hml]; exact hl.1) rfl dJ11_init_1 (Nat.le_of_ble_eq_true rfl) (Nat.le_of_ble_eq_true rfl) ?_
  exact b_vret hC hS ⟨Nat.le_refl _, Nat.le_refl _⟩ rfl dJ11_init_4
theorem wX7_init {l : Launch} {E : XE} {a : Nat} {x0 : Int32} {o0 : Value} : bM l E (b1 a) yX7_init (ws_ yX7_init cX7_init 2 none) { frames := 2, cells := 0, slots := 0, locals := 60 } [.ref a, .int x0] (va_at E.1 E.2.1 (a, .inr (6, [o0]))) (fun _ o H => o = none ∧ va_at E.1 E.2.1 (a, .inr (6, [.int x0])) H) := by
  refine b_met (own := RX7) (mn := "<init>") (by decide) rfl rfl (Nat.le_of_ble_eq_true rfl) (fun p e s m args below meth c hC hA ls hl hS => ?_)
  have hx := hC.1.1.1
  have hb := hC.1.1.2.1
  have hts := hC.1.1.2.2.2.2.2.2
  have hl : lv_has ls 2 [(0, .ref a), (1, .int x0)] := hl
  refine lv_aload_n hx hb dX7_init_0 rfl (lv_at hl 0 rfl) ?_
  refine b_callI [] a hC hS hl.1 (wJ11_init (a := a)) (fun _ h => h.elim) trivial (cwI 0 hts (lw_meth q551) rfl rfl rfl (hts _ q140) (hts _ q549) (hts _ q550) rfl (by decide +kernel) ⟨Nat.le_of_ble_eq_true rfl, Nat.le_of_ble_eq_true rfl⟩) rfl rfl (lv_room (Nat.le_of_ble_eq_true rfl)) ⟨Nat.le_refl _, Nat.le_refl _⟩ (fun _ h => h.elim) dX7_init_1 (fun o H0 locs0 hPo hz hk hS0 => ?_)
  subst hPo
  have hA0 := hA.kept (hk a hA.lt (fun h => h))
  refine lv_aload_n hx hb dX7_init_4 rfl (lv_at hl 0 rfl) ?_
  refine lv_iload_n hx hb dX7_init_5 rfl (lv_at hl 1 rfl) ?_
  refine b_putF (k := 0) (ty := .int) hC hS0 hA0 (Or.inl rfl) in_X7 tyX7 tyX7_ok nmX7 (ci := 6) rfl (by decide) q553 rfl rfl (by decide +kernel) rfl rfl (Nat.le_of_ble_eq_true rfl) dX7_init_6 (fun H1 locs1 hA1 hz1 hk1 hS1 => ?_)
  exact b_vret hC hS1 ⟨Nat.le_refl _, Nat.le_refl _⟩ ⟨rfl, hA1⟩ dX7_init_9
theorem wX8_init {l : Launch} {E : XE} {a : Nat} {x0 : Nat} {o0 : Value} : bM l E (b1 a) yX8_init (ws_ yX8_init cX8_init 2 none) { frames := 2, cells := 0, slots := 0, locals := 60 } [.ref a, .ref x0] (va_at E.1 E.2.1 (a, .inr (7, [o0]))) (fun _ o H => o = none ∧ va_at E.1 E.2.1 (a, .inr (7, [.ref x0])) H) := by
  refine b_met (own := RX8) (mn := "<init>") (by decide) rfl rfl (Nat.le_of_ble_eq_true rfl) (fun p e s m args below meth c hC hA ls hl hS => ?_)
  have hx := hC.1.1.1
  have hb := hC.1.1.2.1
  have hts := hC.1.1.2.2.2.2.2.2
  have hl : lv_has ls 2 [(0, .ref a), (1, .ref x0)] := hl
  refine lv_aload_n hx hb dX8_init_0 rfl (lv_at hl 0 rfl) ?_
  refine b_callI [] a hC hS hl.1 (wJ11_init (a := a)) (fun _ h => h.elim) trivial (cwI 0 hts (lw_meth q551) rfl rfl rfl (hts _ q140) (hts _ q584) (hts _ q550) rfl (by decide +kernel) ⟨Nat.le_of_ble_eq_true rfl, Nat.le_of_ble_eq_true rfl⟩) rfl rfl (lv_room (Nat.le_of_ble_eq_true rfl)) ⟨Nat.le_refl _, Nat.le_refl _⟩ (fun _ h => h.elim) dX8_init_1 (fun o H0 locs0 hPo hz hk hS0 => ?_)
  subst hPo
  have hA0 := hA.kept (hk a hA.lt (fun h => h))
  refine lv_aload_n hx hb dX8_init_4 rfl (lv_at hl 0 rfl) ?_
  refine lv_aload_n hx hb dX8_init_5 rfl (lv_at hl 1 rfl) ?_
  refine b_putF (k := 0) (ty := .object "RailingsCount$Asked") hC hS0 hA0 (Or.inl rfl) in_X8 tyX8 tyX8_ok nmX8 (ci := 7) rfl (by decide) q585 rfl rfl (by decide +kernel) rfl rfl (Nat.le_of_ble_eq_true rfl) dX8_init_6 (fun H1 locs1 hA1 hz1 hk1 hS1 => ?_)
  exact b_vret hC hS1 ⟨Nat.le_refl _, Nat.le_refl _⟩ ⟨rfl, hA1⟩ dX8_init_9
theorem wX9_init {l : Launch} {E : XE} {a : Nat} {x0 : Int32} {x1 : Nat} {x2 : Nat} {o0 o1 o2 : Value} : bM l E (b1 a) yX9_init (ws_ yX9_init cX9_init 4 none) { frames := 2, cells := 0, slots := 0, locals := 60 } [.ref a, .int x0, .ref x1, .ref x2] (va_at E.1 E.2.1 (a, .inr (8, [o0, o1, o2]))) (fun _ o H => o = none ∧ va_at E.1 E.2.1 (a, .inr (8, [.int x0, .ref x1, .ref x2])) H) := by
  refine b_met (own := RX9) (mn := "<init>") (by decide) rfl rfl (Nat.le_of_ble_eq_true rfl) (fun p e s m args below meth c hC hA ls hl hS => ?_)
  have hx := hC.1.1.1
  have hb := hC.1.1.2.1
  have hts := hC.1.1.2.2.2.2.2.2
  have hl : lv_has ls 4 [(0, .ref a), (1, .int x0), (2, .ref x1), (3, .ref x2)] := hl
  refine lv_aload_n hx hb dX9_init_0 rfl (lv_at hl 0 rfl) ?_
  refine b_callI [] a hC hS hl.1 (wJ11_init (a := a)) (fun _ h => h.elim) trivial (cwI 0 hts (lw_meth q551) rfl rfl rfl (hts _ q140) (hts _ q594) (hts _ q550) rfl (by decide +kernel) ⟨Nat.le_of_ble_eq_true rfl, Nat.le_of_ble_eq_true rfl⟩) rfl rfl (lv_room (Nat.le_of_ble_eq_true rfl)) ⟨Nat.le_refl _, Nat.le_refl _⟩ (fun _ h => h.elim) dX9_init_1 (fun o H0 locs0 hPo hz hk hS0 => ?_)
  subst hPo
  have hA0 := hA.kept (hk a hA.lt (fun h => h))
  refine lv_aload_n hx hb dX9_init_4 rfl (lv_at hl 0 rfl) ?_
  refine lv_iload_n hx hb dX9_init_5 rfl (lv_at hl 1 rfl) ?_
  refine b_putF (k := 0) (ty := .int) hC hS0 hA0 (Or.inl rfl) in_X9 tyX9 tyX9_ok nmX9 (ci := 8) rfl (by decide) q595 rfl rfl (by decide +kernel) rfl rfl (Nat.le_of_ble_eq_true rfl) dX9_init_6 (fun H1 locs1 hA1 hz1 hk1 hS1 => ?_)
  refine lv_aload_n hx hb dX9_init_9 rfl (lv_at hl 0 rfl) ?_
  refine lv_aload_n hx hb dX9_init_10 rfl (lv_at hl 2 rfl) ?_
  refine b_putF (k := 1) (ty := .object "RailingsCount$Sum") hC hS1 hA1 (Or.inl rfl) in_X9 tyX9 tyX9_ok nmX9 (ci := 8) rfl (by decide) q596 rfl rfl (by decide +kernel) rfl rfl (Nat.le_of_ble_eq_true rfl) dX9_init_11 (fun H2 locs2 hA2 hz2 hk2 hS2 => ?_)
  refine lv_aload_n hx hb dX9_init_14 rfl (lv_at hl 0 rfl) ?_
  refine lv_aload_n hx hb dX9_init_15 rfl (lv_at hl 3 rfl) ?_
  refine b_putF (k := 2) (ty := .object "RailingsCount$Sum") hC hS2 hA2 (Or.inl rfl) in_X9 tyX9 tyX9_ok nmX9 (ci := 8) rfl (by decide) q597 rfl rfl (by decide +kernel) rfl rfl (Nat.le_of_ble_eq_true rfl) dX9_init_16 (fun H3 locs3 hA3 hz3 hk3 hS3 => ?_)
  exact b_vret hC hS3 ⟨Nat.le_refl _, Nat.le_refl _⟩ ⟨rfl, hA3⟩ dX9_init_19
theorem wX10_init {l : Launch} {E : XE} {a : Nat} {x0 : Int32} {x1 : Nat} {o0 o1 : Value} (hb0 : x0 = 0 ∨ x0 = 1) : bM l E (b1 a) yX10_init (ws_ yX10_init cX10_init 3 none) { frames := 2, cells := 0, slots := 0, locals := 60 } [.ref a, .int x0, .ref x1] (va_at E.1 E.2.1 (a, .inr (9, [o0, o1]))) (fun _ o H => o = none ∧ va_at E.1 E.2.1 (a, .inr (9, [.int x0, .ref x1])) H) := by
  refine b_met (own := RX10) (mn := "<init>") (by decide) rfl rfl (Nat.le_of_ble_eq_true rfl) (fun p e s m args below meth c hC hA ls hl hS => ?_)
  have hx := hC.1.1.1
  have hb := hC.1.1.2.1
  have hts := hC.1.1.2.2.2.2.2.2
  have hl : lv_has ls 3 [(0, .ref a), (1, .int x0), (2, .ref x1)] := hl
  refine lv_aload_n hx hb dX10_init_0 rfl (lv_at hl 0 rfl) ?_
  refine b_callI [] a hC hS hl.1 (wJ11_init (a := a)) (fun _ h => h.elim) trivial (cwI 0 hts (lw_meth q551) rfl rfl rfl (hts _ q140) (hts _ q689) (hts _ q550) rfl (by decide +kernel) ⟨Nat.le_of_ble_eq_true rfl, Nat.le_of_ble_eq_true rfl⟩) rfl rfl (lv_room (Nat.le_of_ble_eq_true rfl)) ⟨Nat.le_refl _, Nat.le_refl _⟩ (fun _ h => h.elim) dX10_init_1 (fun o H0 locs0 hPo hz hk hS0 => ?_)
  subst hPo
  have hA0 := hA.kept (hk a hA.lt (fun h => h))
  refine lv_aload_n hx hb dX10_init_4 rfl (lv_at hl 0 rfl) ?_
  refine lv_iload_n hx hb dX10_init_5 rfl (lv_at hl 1 rfl) ?_
  refine b_putF (k := 0) (ty := .boolean) hC hS0 hA0 (Or.inl rfl) in_X10 tyX10 tyX10_ok nmX10 (ci := 9) rfl (by decide) q690 rfl rfl (by decide +kernel) (by rcases hb0 with rfl | rfl <;> rfl) (by rcases hb0 with rfl | rfl <;> rfl) (Nat.le_of_ble_eq_true rfl) dX10_init_6 (fun H1 locs1 hA1 hz1 hk1 hS1 => ?_)
  refine lv_aload_n hx hb dX10_init_9 rfl (lv_at hl 0 rfl) ?_
  refine lv_aload_n hx hb dX10_init_10 rfl (lv_at hl 2 rfl) ?_
  refine b_putF (k := 1) (ty := .object "java/util/ArrayList") hC hS1 hA1 (Or.inl rfl) in_X10 tyX10 tyX10_ok nmX10 (ci := 9) rfl (by decide) q691 rfl rfl (by decide +kernel) rfl rfl (Nat.le_of_ble_eq_true rfl) dX10_init_11 (fun H2 locs2 hA2 hz2 hk2 hS2 => ?_)
  exact b_vret hC hS2 ⟨Nat.le_refl _, Nat.le_refl _⟩ ⟨rfl, hA2⟩ dX10_init_14
theorem wX11_init {l : Launch} {E : XE} {a : Nat} {x0 : Nat} {x1 : Nat} {x2 : Nat} {o0 o1 o2 : Value} : bM l E (b1 a) yX11_init (ws_ yX11_init cX11_init 4 none) { frames := 2, cells := 0, slots := 0, locals := 60 } [.ref a, .ref x0, .ref x1, .ref x2] (va_at E.1 E.2.1 (a, .inr (10, [o0, o1, o2]))) (fun _ o H => o = none ∧ va_at E.1 E.2.1 (a, .inr (10, [.ref x0, .ref x1, .ref x2])) H) := by
  refine b_met (own := RX11) (mn := "<init>") (by decide) rfl rfl (Nat.le_of_ble_eq_true rfl) (fun p e s m args below meth c hC hA ls hl hS => ?_)
  have hx := hC.1.1.1
  have hb := hC.1.1.2.1
  have hts := hC.1.1.2.2.2.2.2.2
  have hl : lv_has ls 4 [(0, .ref a), (1, .ref x0), (2, .ref x1), (3, .ref x2)] := hl
  refine lv_aload_n hx hb dX11_init_0 rfl (lv_at hl 0 rfl) ?_
  refine b_callI [] a hC hS hl.1 (wJ11_init (a := a)) (fun _ h => h.elim) trivial (cwI 0 hts (lw_meth q551) rfl rfl rfl (hts _ q140) (hts _ q706) (hts _ q550) rfl (by decide +kernel) ⟨Nat.le_of_ble_eq_true rfl, Nat.le_of_ble_eq_true rfl⟩) rfl rfl (lv_room (Nat.le_of_ble_eq_true rfl)) ⟨Nat.le_refl _, Nat.le_refl _⟩ (fun _ h => h.elim) dX11_init_1 (fun o H0 locs0 hPo hz hk hS0 => ?_)
  subst hPo
  have hA0 := hA.kept (hk a hA.lt (fun h => h))
  refine lv_aload_n hx hb dX11_init_4 rfl (lv_at hl 0 rfl) ?_
  refine lv_aload_n hx hb dX11_init_5 rfl (lv_at hl 1 rfl) ?_
  refine b_putF (k := 0) (ty := .object "RailingsCount$Asked") hC hS0 hA0 (Or.inl rfl) in_X11 tyX11 tyX11_ok nmX11 (ci := 10) rfl (by decide) q707 rfl rfl (by decide +kernel) rfl rfl (Nat.le_of_ble_eq_true rfl) dX11_init_6 (fun H1 locs1 hA1 hz1 hk1 hS1 => ?_)
  refine lv_aload_n hx hb dX11_init_9 rfl (lv_at hl 0 rfl) ?_
  refine lv_aload_n hx hb dX11_init_10 rfl (lv_at hl 2 rfl) ?_
  refine b_putF (k := 1) (ty := .object "RailingsCount$Sum") hC hS1 hA1 (Or.inl rfl) in_X11 tyX11 tyX11_ok nmX11 (ci := 10) rfl (by decide) q708 rfl rfl (by decide +kernel) rfl rfl (Nat.le_of_ble_eq_true rfl) dX11_init_11 (fun H2 locs2 hA2 hz2 hk2 hS2 => ?_)
  refine lv_aload_n hx hb dX11_init_14 rfl (lv_at hl 0 rfl) ?_
  refine lv_aload_n hx hb dX11_init_15 rfl (lv_at hl 3 rfl) ?_
  refine b_putF (k := 2) (ty := .object "RailingsCount$Sum") hC hS2 hA2 (Or.inl rfl) in_X11 tyX11 tyX11_ok nmX11 (ci := 10) rfl (by decide) q709 rfl rfl (by decide +kernel) rfl rfl (Nat.le_of_ble_eq_true rfl) dX11_init_16 (fun H3 locs3 hA3 hz3 hk3 hS3 => ?_)
  exact b_vret hC hS3 ⟨Nat.le_refl _, Nat.le_refl _⟩ ⟨rfl, hA3⟩ dX11_init_19
theorem wX12_init {l : Launch} {E : XE} {a : Nat} {x0 : Nat} {x1 : Nat} {o0 o1 : Value} : bM l E (b1 a) yX12_init (ws_ yX12_init cX12_init 3 none) { frames := 2, cells := 0, slots := 0, locals := 60 } [.ref a, .ref x0, .ref x1] (va_at E.1 E.2.1 (a, .inr (11, [o0, o1]))) (fun _ o H => o = none ∧ va_at E.1 E.2.1 (a, .inr (11, [.ref x0, .ref x1])) H) := by
  refine b_met (own := RX12) (mn := "<init>") (by decide) rfl rfl (Nat.le_of_ble_eq_true rfl) (fun p e s m args below meth c hC hA ls hl hS => ?_)
  have hx := hC.1.1.1
  have hb := hC.1.1.2.1
  have hts := hC.1.1.2.2.2.2.2.2
  have hl : lv_has ls 3 [(0, .ref a), (1, .ref x0), (2, .ref x1)] := hl
  refine lv_aload_n hx hb dX12_init_0 rfl (lv_at hl 0 rfl) ?_
  refine b_callI [] a hC hS hl.1 (wJ11_init (a := a)) (fun _ h => h.elim) trivial (cwI 0 hts (lw_meth q551) rfl rfl rfl (hts _ q140) (hts _ q726) (hts _ q550) rfl (by decide +kernel) ⟨Nat.le_of_ble_eq_true rfl, Nat.le_of_ble_eq_true rfl⟩) rfl rfl (lv_room (Nat.le_of_ble_eq_true rfl)) ⟨Nat.le_refl _, Nat.le_refl _⟩ (fun _ h => h.elim) dX12_init_1 (fun o H0 locs0 hPo hz hk hS0 => ?_)
  subst hPo
  have hA0 := hA.kept (hk a hA.lt (fun h => h))
  refine lv_aload_n hx hb dX12_init_4 rfl (lv_at hl 0 rfl) ?_
  refine lv_aload_n hx hb dX12_init_5 rfl (lv_at hl 1 rfl) ?_
  refine b_putF (k := 0) (ty := .object "RailingsCount$Sum") hC hS0 hA0 (Or.inl rfl) in_X12 tyX12 tyX12_ok nmX12 (ci := 11) rfl (by decide) q727 rfl rfl (by decide +kernel) rfl rfl (Nat.le_of_ble_eq_true rfl) dX12_init_6 (fun H1 locs1 hA1 hz1 hk1 hS1 => ?_)
  refine lv_aload_n hx hb dX12_init_9 rfl (lv_at hl 0 rfl) ?_
  refine lv_aload_n hx hb dX12_init_10 rfl (lv_at hl 2 rfl) ?_
  refine b_putF (k := 1) (ty := .object "RailingsCount$Sum") hC hS1 hA1 (Or.inl rfl) in_X12 tyX12 tyX12_ok nmX12 (ci := 11) rfl (by decide) q728 rfl rfl (by decide +kernel) rfl rfl (Nat.le_of_ble_eq_true rfl) dX12_init_11 (fun H2 locs2 hA2 hz2 hk2 hS2 => ?_)
  exact b_vret hC hS2 ⟨Nat.le_refl _, Nat.le_refl _⟩ ⟨rfl, hA2⟩ dX12_init_14
theorem wX13_init {l : Launch} {E : XE} {a : Nat} {x0 : Int32} {o0 : Value} : bM l E (b1 a) yX13_init (ws_ yX13_init cX13_init 2 none) { frames := 2, cells := 0, slots := 0, locals := 60 } [.ref a, .int x0] (va_at E.1 E.2.1 (a, .inr (12, [o0]))) (fun _ o H => o = none ∧ va_at E.1 E.2.1 (a, .inr (12, [.int x0])) H) := by
  refine b_met (own := RX13) (mn := "<init>") (by decide) rfl rfl (Nat.le_of_ble_eq_true rfl) (fun p e s m args below meth c hC hA ls hl hS => ?_)
  have hx := hC.1.1.1
  have hb := hC.1.1.2.1
  have hts := hC.1.1.2.2.2.2.2.2
  have hl : lv_has ls 2 [(0, .ref a), (1, .int x0)] := hl
  refine lv_aload_n hx hb dX13_init_0 rfl (lv_at hl 0 rfl) ?_
  refine b_callI [] a hC hS hl.1 (wJ11_init (a := a)) (fun _ h => h.elim) trivial (cwI 0 hts (lw_meth q551) rfl rfl rfl (hts _ q140) (hts _ q749) (hts _ q550) rfl (by decide +kernel) ⟨Nat.le_of_ble_eq_true rfl, Nat.le_of_ble_eq_true rfl⟩) rfl rfl (lv_room (Nat.le_of_ble_eq_true rfl)) ⟨Nat.le_refl _, Nat.le_refl _⟩ (fun _ h => h.elim) dX13_init_1 (fun o H0 locs0 hPo hz hk hS0 => ?_)
  subst hPo
  have hA0 := hA.kept (hk a hA.lt (fun h => h))
  refine lv_aload_n hx hb dX13_init_4 rfl (lv_at hl 0 rfl) ?_
  refine lv_iload_n hx hb dX13_init_5 rfl (lv_at hl 1 rfl) ?_
  refine b_putF (k := 0) (ty := .int) hC hS0 hA0 (Or.inl rfl) in_X13 tyX13 tyX13_ok nmX13 (ci := 12) rfl (by decide) q750 rfl rfl (by decide +kernel) rfl rfl (Nat.le_of_ble_eq_true rfl) dX13_init_6 (fun H1 locs1 hA1 hz1 hk1 hS1 => ?_)
  exact b_vret hC hS1 ⟨Nat.le_refl _, Nat.le_refl _⟩ ⟨rfl, hA1⟩ dX13_init_9
theorem wX14_init {l : Launch} {E : XE} {a : Nat} {x0 : Nat} {o0 : Value} : bM l E (b1 a) yX14_init (ws_ yX14_init cX14_init 2 none) { frames := 2, cells := 0, slots := 0, locals := 60 } [.ref a, .ref x0] (va_at E.1 E.2.1 (a, .inr (13, [o0]))) (fun _ o H => o = none ∧ va_at E.1 E.2.1 (a, .inr (13, [.ref x0])) H) := by
  refine b_met (own := RX14) (mn := "<init>") (by decide) rfl rfl (Nat.le_of_ble_eq_true rfl) (fun p e s m args below meth c hC hA ls hl hS => ?_)
  have hx := hC.1.1.1
  have hb := hC.1.1.2.1
  have hts := hC.1.1.2.2.2.2.2.2
  have hl : lv_has ls 2 [(0, .ref a), (1, .ref x0)] := hl
  refine lv_aload_n hx hb dX14_init_0 rfl (lv_at hl 0 rfl) ?_
  refine b_callI [] a hC hS hl.1 (wJ11_init (a := a)) (fun _ h => h.elim) trivial (cwI 0 hts (lw_meth q551) rfl rfl rfl (hts _ q140) (hts _ q759) (hts _ q550) rfl (by decide +kernel) ⟨Nat.le_of_ble_eq_true rfl, Nat.le_of_ble_eq_true rfl⟩) rfl rfl (lv_room (Nat.le_of_ble_eq_true rfl)) ⟨Nat.le_refl _, Nat.le_refl _⟩ (fun _ h => h.elim) dX14_init_1 (fun o H0 locs0 hPo hz hk hS0 => ?_)
  subst hPo
  have hA0 := hA.kept (hk a hA.lt (fun h => h))
  refine lv_aload_n hx hb dX14_init_4 rfl (lv_at hl 0 rfl) ?_
  refine lv_aload_n hx hb dX14_init_5 rfl (lv_at hl 1 rfl) ?_
  refine b_putF (k := 0) (ty := .object "RailingsCount$Sum") hC hS0 hA0 (Or.inl rfl) in_X14 tyX14 tyX14_ok nmX14 (ci := 13) rfl (by decide) q760 rfl rfl (by decide +kernel) rfl rfl (Nat.le_of_ble_eq_true rfl) dX14_init_6 (fun H1 locs1 hA1 hz1 hk1 hS1 => ?_)
  exact b_vret hC hS1 ⟨Nat.le_refl _, Nat.le_refl _⟩ ⟨rfl, hA1⟩ dX14_init_9
theorem wX15_init {l : Launch} {E : XE} {a : Nat} {x0 : Nat} {o0 : Value} : bM l E (b1 a) yX15_init (ws_ yX15_init cX15_init 2 none) { frames := 2, cells := 0, slots := 0, locals := 60 } [.ref a, .ref x0] (va_at E.1 E.2.1 (a, .inr (14, [o0]))) (fun _ o H => o = none ∧ va_at E.1 E.2.1 (a, .inr (14, [.ref x0])) H) := by
  refine b_met (own := RX15) (mn := "<init>") (by decide) rfl rfl (Nat.le_of_ble_eq_true rfl) (fun p e s m args below meth c hC hA ls hl hS => ?_)
  have hx := hC.1.1.1
  have hb := hC.1.1.2.1
  have hts := hC.1.1.2.2.2.2.2.2
  have hl : lv_has ls 2 [(0, .ref a), (1, .ref x0)] := hl
  refine lv_aload_n hx hb dX15_init_0 rfl (lv_at hl 0 rfl) ?_
  refine b_callI [] a hC hS hl.1 (wJ11_init (a := a)) (fun _ h => h.elim) trivial (cwI 0 hts (lw_meth q551) rfl rfl rfl (hts _ q140) (hts _ q769) (hts _ q550) rfl (by decide +kernel) ⟨Nat.le_of_ble_eq_true rfl, Nat.le_of_ble_eq_true rfl⟩) rfl rfl (lv_room (Nat.le_of_ble_eq_true rfl)) ⟨Nat.le_refl _, Nat.le_refl _⟩ (fun _ h => h.elim) dX15_init_1 (fun o H0 locs0 hPo hz hk hS0 => ?_)
  subst hPo
  have hA0 := hA.kept (hk a hA.lt (fun h => h))
  refine lv_aload_n hx hb dX15_init_4 rfl (lv_at hl 0 rfl) ?_
  refine lv_aload_n hx hb dX15_init_5 rfl (lv_at hl 1 rfl) ?_
  refine b_putF (k := 0) (ty := .object "RailingsCount$Sum") hC hS0 hA0 (Or.inl rfl) in_X15 tyX15 tyX15_ok nmX15 (ci := 14) rfl (by decide) q770 rfl rfl (by decide +kernel) rfl rfl (Nat.le_of_ble_eq_true rfl) dX15_init_6 (fun H1 locs1 hA1 hz1 hk1 hS1 => ?_)
  exact b_vret hC hS1 ⟨Nat.le_refl _, Nat.le_refl _⟩ ⟨rfl, hA1⟩ dX15_init_9
theorem wX16_init {l : Launch} {E : XE} {a : Nat} {x0 : Int32} {x1 : Int32} {x2 : Int32} {x3 : Int32} {o0 o1 o2 o3 : Value} : bM l E (b1 a) yX16_init (ws_ yX16_init cX16_init 5 none) { frames := 2, cells := 0, slots := 0, locals := 60 } [.ref a, .int x0, .int x1, .int x2, .int x3] (va_at E.1 E.2.1 (a, .inr (15, [o0, o1, o2, o3]))) (fun _ o H => o = none ∧ va_at E.1 E.2.1 (a, .inr (15, [.int x0, .int x1, .int x2, .int x3])) H) := by
  refine b_met (own := RX16) (mn := "<init>") (by decide) rfl rfl (Nat.le_of_ble_eq_true rfl) (fun p e s m args below meth c hC hA ls hl hS => ?_)
  have hx := hC.1.1.1
  have hb := hC.1.1.2.1
  have hts := hC.1.1.2.2.2.2.2.2
  have hl : lv_has ls 5 [(0, .ref a), (1, .int x0), (2, .int x1), (3, .int x2), (4, .int x3)] := hl
  refine lv_aload_n hx hb dX16_init_0 rfl (lv_at hl 0 rfl) ?_
  refine b_callI [] a hC hS hl.1 (wJ11_init (a := a)) (fun _ h => h.elim) trivial (cwI 0 hts (lw_meth q551) rfl rfl rfl (hts _ q140) (hts _ q836) (hts _ q550) rfl (by decide +kernel) ⟨Nat.le_of_ble_eq_true rfl, Nat.le_of_ble_eq_true rfl⟩) rfl rfl (lv_room (Nat.le_of_ble_eq_true rfl)) ⟨Nat.le_refl _, Nat.le_refl _⟩ (fun _ h => h.elim) dX16_init_1 (fun o H0 locs0 hPo hz hk hS0 => ?_)
  subst hPo
  have hA0 := hA.kept (hk a hA.lt (fun h => h))
  refine lv_aload_n hx hb dX16_init_4 rfl (lv_at hl 0 rfl) ?_
  refine lv_iload_n hx hb dX16_init_5 rfl (lv_at hl 1 rfl) ?_
  refine b_putF (k := 0) (ty := .int) hC hS0 hA0 (Or.inl rfl) in_X16 tyX16 tyX16_ok nmX16 (ci := 15) rfl (by decide) q837 rfl rfl (by decide +kernel) rfl rfl (Nat.le_of_ble_eq_true rfl) dX16_init_6 (fun H1 locs1 hA1 hz1 hk1 hS1 => ?_)
  refine lv_aload_n hx hb dX16_init_9 rfl (lv_at hl 0 rfl) ?_
  refine lv_iload_n hx hb dX16_init_10 rfl (lv_at hl 2 rfl) ?_
  refine b_putF (k := 1) (ty := .int) hC hS1 hA1 (Or.inl rfl) in_X16 tyX16 tyX16_ok nmX16 (ci := 15) rfl (by decide) q838 rfl rfl (by decide +kernel) rfl rfl (Nat.le_of_ble_eq_true rfl) dX16_init_11 (fun H2 locs2 hA2 hz2 hk2 hS2 => ?_)
  refine lv_aload_n hx hb dX16_init_14 rfl (lv_at hl 0 rfl) ?_
  refine lv_iload_n hx hb dX16_init_15 rfl (lv_at hl 3 rfl) ?_
  refine b_putF (k := 2) (ty := .int) hC hS2 hA2 (Or.inl rfl) in_X16 tyX16 tyX16_ok nmX16 (ci := 15) rfl (by decide) q839 rfl rfl (by decide +kernel) rfl rfl (Nat.le_of_ble_eq_true rfl) dX16_init_16 (fun H3 locs3 hA3 hz3 hk3 hS3 => ?_)
  refine lv_aload_n hx hb dX16_init_19 rfl (lv_at hl 0 rfl) ?_
  refine lv_iload hx hb dX16_init_20 (lv_at hl 4 rfl) ?_
  refine b_putF (k := 3) (ty := .int) hC hS3 hA3 (Or.inl rfl) in_X16 tyX16 tyX16_ok nmX16 (ci := 15) rfl (by decide) q840 rfl rfl (by decide +kernel) rfl rfl (Nat.le_of_ble_eq_true rfl) dX16_init_22 (fun H4 locs4 hA4 hz4 hk4 hS4 => ?_)
  exact b_vret hC hS4 ⟨Nat.le_refl _, Nat.le_refl _⟩ ⟨rfl, hA4⟩ dX16_init_25
