set_option maxRecDepth 100000
noncomputable def fX1_tells_B9 (k : Nat) (v1 : Int32) (v2 : Int32) (a : Int32 × XS) : Option ((Int32 × XS) ⊕ XS) := if (a.2.2.1 8 (3 : Int32).toNatClampNeg) ≤ a.1 then (some (.inr a.2)) else (if ib a.1 30 then none else (if ib v1 190 then none else (nm (xA a.2 (70 + a.1.toNatClampNeg) (upd (a.2.2.1 (70 + a.1.toNatClampNeg)) v1.toNatClampNeg v2)) fun z_5 => some (.inl ((a.1 + (1 : Int32)), z_5)))))
set_option maxHeartbeats 1000000 in
theorem wX1_tells_B9 {p : Program} {l : Launch} {e : Env} {s : State} {m : MethodId} {args : Array Value} {below : List Frame} {meth : Method} {c : Code} {E : XE} {Q : State → Prop} (k : Nat) (v1 : Int32) (v2 : Int32) (hC : xC E RX1 cX1_tells 4 none p s m args meth c) (a : Int32 × XS) (y : (Int32 × XS) ⊕ XS) (hE : fX1_tells_B9 k v1 v2 a = some y) (hc : ∀ a : Int32 × XS, y = .inl a → xW p l e rmX1_tells s m args below meth c E 4 Q 0 0 9 [(0, .ref (E.2.2.1 1)), (1, .int v1), (2, .int v2), (3, .int a.1)] [] a.2) (hx1 : ∀ b : XS, y = .inr b → xW p l e rmX1_tells s m args below meth c E 4 Q 0 0 34 [] [] b) : xW p l e rmX1_tells s m args below meth c E 4 Q 0 0 9 [(0, .ref (E.2.2.1 1)), (1, .int v1), (2, .int v2), (3, .int a.1)] [] a.2 := by
  intro H locs cells slots ls hP hS hB hl
  have hx := hC.1
  have hb := hC.2.1
  have hown := hC.2.2.2.2.2.1
  have hts := hC.2.2.2.2.2.2.1
  unfold fX1_tells_B9 at hE
  refine lv_iload_n hx hb dX1_tells_9 rfl (lv_at hl 3 rfl) ?_
  refine lv_aload_n hx hb dX1_tells_10 rfl (lv_at hl 0 rfl) ?_
  refine gS_9_1 hC hP dX1_tells_11 ?_
  refine lv_iconst (v := 3) hx hb dX1_tells_14 (by decide) ?_
  refine x_iald hC hP (⟨by decide, rfl, rfl⟩ : xint 8 6) (i := (3 : Int32)) (by decide) dX1_tells_15 ?_
  refine lv_icmp_ge (tgt := 34) hx hb dX1_tells_16 (by decide) (fun c_3 => ?_) (fun c_3 => ?_)
  · have hE := ip c_3 hE
    exact hx1 _ (Option.some.inj hE).symm H locs cells slots ls hP hS hB (lv_sub hl [] rfl)
  · have hE := iq c_3 hE
    refine lv_aload_n hx hb dX1_tells_19 rfl (lv_at hl 0 rfl) ?_
    refine gS_35_1 hC hP dX1_tells_20 ?_
    refine lv_iload_n hx hb dX1_tells_23 rfl (lv_at hl 3 rfl) ?_
    obtain ⟨c_4, hE⟩ := og hE
    refine x_aald hC hP xo_15 c_4 dX1_tells_24 ?_
    refine lv_iload_n hx hb dX1_tells_25 rfl (lv_at hl 1 rfl) ?_
    refine lv_iload_n hx hb dX1_tells_26 rfl (lv_at hl 2 rfl) ?_
    obtain ⟨c_5, hE⟩ := og hE
    obtain ⟨z_5, ez_5, hE⟩ := on hE
    refine x_iast hC hP hS (xrow xo_15 c_4) c_5 ez_5 dX1_tells_27 (fun H locs hP hS => ?_)
    refine lv_iinc (v := (a.1 + (1 : Int32))) (lv' := [(3, .int (a.1 + (1 : Int32))), (0, .ref (E.2.2.1 1)), (1, .int v1), (2, .int v2)]) hx hb dX1_tells_28 hl (k := 3) rfl rfl (Nat.le_of_ble_eq_true rfl) rfl (fun ls hl => ?_)
    refine lv_goto (tgt := 9) hx hb dX1_tells_31 (by decide) ?_
    exact hc _ (Option.some.inj hE).symm H locs cells slots ls hP hS hB (lv_sub hl [1, 2, 3, 0] rfl)
noncomputable def fX1_tells (k : Nat) (z : XS) (x1 : Int32) (x2 : Int32) : Option XS := if ib x1 190 then none else (nm (xA z 9 (upd (z.2.1 9) x1.toNatClampNeg x2)) fun z_1 => (lpo (fX1_tells_B9 k x1 x2) k ((0 : Int32), z_1)).bind fun x_6 => some x_6)
set_option maxHeartbeats 1000000 in
theorem wX1_tells {l : Launch} {E : XE} (k : Nat) (z : XS) (x1 : Int32) (x2 : Int32) (y : XS) (hE : fX1_tells k z x1 x2 = some y) : xM l yX1_tells (ws_ yX1_tells cX1_tells 4 none) rmX1_tells E z [.ref (E.2.2.1 1), .int x1, .int x2] none y := by
  refine x_met (own := RX1) (by decide) rfl (Nat.le_of_ble_eq_true rfl) (fun p e s m args below meth c hC => ?_)
  intro H locs cells slots ls hP hS hB hl
  have hx := hC.1
  have hb := hC.2.1
  have hown := hC.2.2.2.2.2.1
  have hts := hC.2.2.2.2.2.2.1
  have hl : lv_has ls 4 [(0, .ref (E.2.2.1 1)), (1, .int x1), (2, .int x2)] := hl
  unfold fX1_tells at hE
  refine lv_aload_n hx hb dX1_tells_0 rfl (lv_at hl 0 rfl) ?_
  refine gS_15_1 hC hP dX1_tells_1 ?_
  refine lv_iload_n hx hb dX1_tells_4 rfl (lv_at hl 1 rfl) ?_
  refine lv_iload_n hx hb dX1_tells_5 rfl (lv_at hl 2 rfl) ?_
  obtain ⟨c_1, hE⟩ := og hE
  obtain ⟨z_1, ez_1, hE⟩ := on hE
  refine x_iast hC hP hS (⟨by decide, rfl, rfl⟩ : xint 9 190) c_1 ez_1 dX1_tells_6 (fun H locs hP hS => ?_)
  refine lv_iconst (v := 0) hx hb dX1_tells_7 (by decide) ?_
  refine lv_istore_n (lv' := [(3, .int (0 : Int32)), (0, .ref (E.2.2.1 1)), (1, .int x1), (2, .int x2)]) hx hb dX1_tells_8 rfl hl (Nat.le_of_ble_eq_true rfl) rfl (fun ls hl => ?_)
  obtain ⟨x_6, h_6, hE⟩ := ob hE
  refine lpo_walk (fun p_6 : Int32 × XS => xW p l e rmX1_tells s m args below meth c E 4 (xQ E rmX1_tells below args s none y) 0 0 9 [(0, .ref (E.2.2.1 1)), (1, .int x1), (2, .int x2), (3, .int p_6.1)] [] p_6.2) (fun q_6 : XS => xW p l e rmX1_tells s m args below meth c E 4 (xQ E rmX1_tells below args s none y) 0 0 34 [] [] q_6) (fun a_6 y_6 hB_6 hc_6 hx_6 => wX1_tells_B9 k x1 x2 hC a_6 y_6 hB_6 hc_6 hx_6) _ _ x_6 h_6 ?_ H locs cells slots ls hP hS hB (lv_sub hl [1, 2, 3, 0] rfl)
  intro H locs cells slots ls hP hS hB hl
  obtain rfl := Option.some.inj hE
  exact x_vret hC hP hS hB dX1_tells_34
noncomputable def fX0_bar (k : Nat) (z : XS) (x1 : Int32) (x2 : Int32) : Option (Int32 × XS) := (fX0_isPlace x1).bind fun r_1 => if r_1 = 0 then (some ((0 : Int32), z)) else ((fX0_in x2 (0 : Int32) (3 : Int32)).bind fun r_3 => if r_3 = 0 then (some ((0 : Int32), z)) else ((fX1_tells k z ((2 : Int32) + x1) x2).bind fun r_5 => some ((1 : Int32), r_5)))
set_option maxHeartbeats 1000000 in
theorem wX0_bar {l : Launch} {E : XE} (k : Nat) (z : XS) (x1 : Int32) (x2 : Int32) (y : Int32 × XS) (hE : fX0_bar k z x1 x2 = some y) : xM l yX0_bar (ws_ yX0_bar cX0_bar 3 (some .boolean)) rmX0_bar E z [.ref (E.2.2.1 0), .int x1, .int x2] (some (.int y.1)) y.2 := by
  refine x_met (own := RX0) (by decide) rfl (Nat.le_of_ble_eq_true rfl) (fun p e s m args below meth c hC => ?_)
  intro H locs cells slots ls hP hS hB hl
  have hx := hC.1
  have hb := hC.2.1
  have hown := hC.2.2.2.2.2.1
  have hts := hC.2.2.2.2.2.2.1
  have hl : lv_has ls 3 [(0, .ref (E.2.2.1 0)), (1, .int x1), (2, .int x2)] := hl
  unfold fX0_bar at hE
  refine lv_iload_n hx hb dX0_bar_0 rfl (lv_at hl 1 rfl) ?_
  obtain ⟨r_1, h_1, hE⟩ := ob hE
  refine s_calli [.int x1] hC.sC hl.1 (wX0_isPlace x1 r_1 h_1) (va_cwS 1 hts lkX0_68 rfl rfl rfl cdX0_isPlace ⟨Nat.le_of_ble_eq_true rfl, Nat.le_of_ble_eq_true rfl⟩) rfl rfl (lv_room (Nat.le_of_ble_eq_true rfl)) (hB0 hB) dX0_bar_1 ?_
  refine lv_if_eq (tgt := 16) hx hb dX0_bar_4 (by decide) (fun c_2 => ?_) (fun c_2 => ?_)
  · have hE := ip c_2 hE
    refine lv_iconst (v := 0) hx hb dX0_bar_16 (by decide) ?_
    obtain rfl := Option.some.inj hE
    exact x_zret (v := (0 : Int32)) hC hP hS hB (by decide) dX0_bar_17
  · have hE := iq c_2 hE
    refine lv_iload_n hx hb dX0_bar_7 rfl (lv_at hl 2 rfl) ?_
    refine lv_iconst (v := 0) hx hb dX0_bar_8 (by decide) ?_
    refine lv_iconst (v := 3) hx hb dX0_bar_9 (by decide) ?_
    obtain ⟨r_3, h_3, hE⟩ := ob hE
    refine s_calli [.int x2, .int (0 : Int32), .int (3 : Int32)] hC.sC hl.1 (wX0_in x2 (0 : Int32) (3 : Int32) r_3 h_3) (va_cwS 3 hts lkX0_58 rfl rfl rfl cdX0_in ⟨Nat.le_of_ble_eq_true rfl, Nat.le_of_ble_eq_true rfl⟩) rfl rfl (lv_room (Nat.le_of_ble_eq_true rfl)) (hB0 hB) dX0_bar_10 ?_
    refine lv_if_ne (tgt := 18) hx hb dX0_bar_13 (by decide) (fun c_4 => ?_) (fun c_4 => ?_)
    · have hE := iq c_4 hE
      refine lv_aload_n hx hb dX0_bar_18 rfl (lv_at hl 0 rfl) ?_
      refine gX_21 hC hP dX0_bar_19 ?_
      refine lv_iconst (v := 2) hx hb dX0_bar_22 (by decide) ?_
      refine lv_iload_n hx hb dX0_bar_23 rfl (lv_at hl 1 rfl) ?_
      refine lv_iadd hx hb dX0_bar_24 ?_
      refine lv_iload_n hx hb dX0_bar_25 rfl (lv_at hl 2 rfl) ?_
      obtain ⟨r_5, h_5, hE⟩ := ob hE
      refine x_callV (rc1 := _) (rs1 := _) [.int ((2 : Int32) + x1), .int x2] (E.2.2.1 1) hC hP hS hB hl.1 (wX1_tells k z ((2 : Int32) + x1) x2 r_5 h_5) (xC.c1 hC) (xw_get E _ (k := 1) (by decide)) (cwV 2 hts lkX0_72 rfl rfl rfl cdX1_tells ⟨Nat.le_of_ble_eq_true rfl, Nat.le_of_ble_eq_true rfl⟩) rfl rfl (lv_room (Nat.le_of_ble_eq_true rfl)) ⟨Nat.le_of_eq (Nat.zero_add _), Nat.le_of_eq (Nat.zero_add _)⟩ dX0_bar_26 (fun H locs cells slots hP hS hB => ?_)
      show W p l e _ s m args below meth c H locs cells slots _ (F0 m _ ls ([]))
      refine lv_iconst (v := 1) hx hb dX0_bar_29 (by decide) ?_
      obtain rfl := Option.some.inj hE
      exact x_zret (v := (1 : Int32)) hC hP hS hB (by decide) dX0_bar_30
    · have hE := ip c_4 hE
      refine lv_iconst (v := 0) hx hb dX0_bar_16 (by decide) ?_
      obtain rfl := Option.some.inj hE
      exact x_zret (v := (0 : Int32)) hC hP hS hB (by decide) dX0_bar_17
noncomputable def fX0_paint (k : Nat) (z : XS) (x1 : Int32) (x2 : Int32) : Option (Int32 × XS) := (fX0_isPlace x1).bind fun r_1 => if r_1 = 0 then (some ((0 : Int32), z)) else ((fX0_in x2 (0 : Int32) (9 : Int32)).bind fun r_3 => if r_3 = 0 then (some ((0 : Int32), z)) else ((fX1_tells k z ((32 : Int32) + x1) x2).bind fun r_5 => some ((1 : Int32), r_5)))
set_option maxHeartbeats 1000000 in
theorem wX0_paint {l : Launch} {E : XE} (k : Nat) (z : XS) (x1 : Int32) (x2 : Int32) (y : Int32 × XS) (hE : fX0_paint k z x1 x2 = some y) : xM l yX0_paint (ws_ yX0_paint cX0_paint 3 (some .boolean)) rmX0_paint E z [.ref (E.2.2.1 0), .int x1, .int x2] (some (.int y.1)) y.2 := by
  refine x_met (own := RX0) (by decide) rfl (Nat.le_of_ble_eq_true rfl) (fun p e s m args below meth c hC => ?_)
  intro H locs cells slots ls hP hS hB hl
  have hx := hC.1
  have hb := hC.2.1
  have hown := hC.2.2.2.2.2.1
  have hts := hC.2.2.2.2.2.2.1
  have hl : lv_has ls 3 [(0, .ref (E.2.2.1 0)), (1, .int x1), (2, .int x2)] := hl
  unfold fX0_paint at hE
  refine lv_iload_n hx hb dX0_paint_0 rfl (lv_at hl 1 rfl) ?_
  obtain ⟨r_1, h_1, hE⟩ := ob hE
  refine s_calli [.int x1] hC.sC hl.1 (wX0_isPlace x1 r_1 h_1) (va_cwS 1 hts lkX0_68 rfl rfl rfl cdX0_isPlace ⟨Nat.le_of_ble_eq_true rfl, Nat.le_of_ble_eq_true rfl⟩) rfl rfl (lv_room (Nat.le_of_ble_eq_true rfl)) (hB0 hB) dX0_paint_1 ?_
  refine lv_if_eq (tgt := 17) hx hb dX0_paint_4 (by decide) (fun c_2 => ?_) (fun c_2 => ?_)
  · have hE := ip c_2 hE
    refine lv_iconst (v := 0) hx hb dX0_paint_17 (by decide) ?_
    obtain rfl := Option.some.inj hE
    exact x_zret (v := (0 : Int32)) hC hP hS hB (by decide) dX0_paint_18
  · have hE := iq c_2 hE
    refine lv_iload_n hx hb dX0_paint_7 rfl (lv_at hl 2 rfl) ?_
    refine lv_iconst (v := 0) hx hb dX0_paint_8 (by decide) ?_
    refine lv_bipush (v := 9) hx hb dX0_paint_9 (by decide) ?_
    obtain ⟨r_3, h_3, hE⟩ := ob hE
    refine s_calli [.int x2, .int (0 : Int32), .int (9 : Int32)] hC.sC hl.1 (wX0_in x2 (0 : Int32) (9 : Int32) r_3 h_3) (va_cwS 3 hts lkX0_58 rfl rfl rfl cdX0_in ⟨Nat.le_of_ble_eq_true rfl, Nat.le_of_ble_eq_true rfl⟩) rfl rfl (lv_room (Nat.le_of_ble_eq_true rfl)) (hB0 hB) dX0_paint_11 ?_
    refine lv_if_ne (tgt := 19) hx hb dX0_paint_14 (by decide) (fun c_4 => ?_) (fun c_4 => ?_)
    · have hE := iq c_4 hE
      refine lv_aload_n hx hb dX0_paint_19 rfl (lv_at hl 0 rfl) ?_
      refine gX_21 hC hP dX0_paint_20 ?_
      refine lv_bipush (v := 32) hx hb dX0_paint_23 (by decide) ?_
      refine lv_iload_n hx hb dX0_paint_25 rfl (lv_at hl 1 rfl) ?_
      refine lv_iadd hx hb dX0_paint_26 ?_
      refine lv_iload_n hx hb dX0_paint_27 rfl (lv_at hl 2 rfl) ?_
      obtain ⟨r_5, h_5, hE⟩ := ob hE
      refine x_callV (rc1 := _) (rs1 := _) [.int ((32 : Int32) + x1), .int x2] (E.2.2.1 1) hC hP hS hB hl.1 (wX1_tells k z ((32 : Int32) + x1) x2 r_5 h_5) (xC.c1 hC) (xw_get E _ (k := 1) (by decide)) (cwV 2 hts lkX0_72 rfl rfl rfl cdX1_tells ⟨Nat.le_of_ble_eq_true rfl, Nat.le_of_ble_eq_true rfl⟩) rfl rfl (lv_room (Nat.le_of_ble_eq_true rfl)) ⟨Nat.le_of_eq (Nat.zero_add _), Nat.le_of_eq (Nat.zero_add _)⟩ dX0_paint_28 (fun H locs cells slots hP hS hB => ?_)
      show W p l e _ s m args below meth c H locs cells slots _ (F0 m _ ls ([]))
      refine lv_iconst (v := 1) hx hb dX0_paint_31 (by decide) ?_
      obtain rfl := Option.some.inj hE
      exact x_zret (v := (1 : Int32)) hC hP hS hB (by decide) dX0_paint_32
    · have hE := ip c_4 hE
      refine lv_iconst (v := 0) hx hb dX0_paint_17 (by decide) ?_
      obtain rfl := Option.some.inj hE
      exact x_zret (v := (0 : Int32)) hC hP hS hB (by decide) dX0_paint_18
noncomputable def fX0_child (z : XS) (x1 : Int32) (x2 : Int32) : Option (Int32 × XS) := (fX0_in x1 (1 : Int32) (9 : Int32)).bind fun r_2 => if r_2 = 0 then (some ((-1 : Int32), z)) else ((fX0_in x2 (0 : Int32) (9 : Int32)).bind fun r_4 => if r_4 = 0 then (some ((-1 : Int32), z)) else (if (z.2.1 8 (0 : Int32).toNatClampNeg) = (7 : Int32) then (some ((-1 : Int32), z)) else (if ib (z.2.1 8 (0 : Int32).toNatClampNeg) 7 then none else (nm (xA z 10 (upd (z.2.1 10) (z.2.1 8 (0 : Int32).toNatClampNeg).toNatClampNeg x1)) fun z_7 => if ib (z.2.1 8 (0 : Int32).toNatClampNeg) 7 then none else (nm (xA z_7 11 (upd (z_7.2.1 11) (z.2.1 8 (0 : Int32).toNatClampNeg).toNatClampNeg x2)) fun z_8 => nm (xA z_8 8 (upd (z_8.2.1 8) (0 : Int32).toNatClampNeg ((z_8.2.1 8 (0 : Int32).toNatClampNeg) + (1 : Int32)))) fun z_10 => some ((z.2.1 8 (0 : Int32).toNatClampNeg), z_10))))))
set_option maxHeartbeats 1000000 in
theorem wX0_child {l : Launch} {E : XE} (z : XS) (x1 : Int32) (x2 : Int32) (y : Int32 × XS) (hE : fX0_child z x1 x2 = some y) : xM l yX0_child (ws_ yX0_child cX0_child 4 (some .int)) rmX0_child E z [.ref (E.2.2.1 0), .int x1, .int x2] (some (.int y.1)) y.2 := by
  refine x_met (own := RX0) (by decide) rfl (Nat.le_of_ble_eq_true rfl) (fun p e s m args below meth c hC => ?_)
  intro H locs cells slots ls hP hS hB hl
  have hx := hC.1
  have hb := hC.2.1
  have hown := hC.2.2.2.2.2.1
  have hts := hC.2.2.2.2.2.2.1
  have hl : lv_has ls 4 [(0, .ref (E.2.2.1 0)), (1, .int x1), (2, .int x2)] := hl
  unfold fX0_child at hE
  refine lv_aload_n hx hb dX0_child_0 rfl (lv_at hl 0 rfl) ?_
  refine gX_21 hC hP dX0_child_1 ?_
  refine gN_62_1 hC hP dX0_child_4 ?_
  refine lv_iconst (v := 0) hx hb dX0_child_7 (by decide) ?_
  refine x_iald hC hP (⟨by decide, rfl, rfl⟩ : xint 8 6) (i := (0 : Int32)) (by decide) dX0_child_8 ?_
  refine lv_istore_n (lv' := [(3, .int (z.2.1 8 (0 : Int32).toNatClampNeg)), (0, .ref (E.2.2.1 0)), (1, .int x1), (2, .int x2)]) hx hb dX0_child_9 rfl hl (Nat.le_of_ble_eq_true rfl) rfl (fun ls hl => ?_)
  refine lv_iload_n hx hb dX0_child_10 rfl (lv_at hl 2 rfl) ?_
  refine lv_iconst (v := 1) hx hb dX0_child_11 (by decide) ?_
  refine lv_bipush (v := 9) hx hb dX0_child_12 (by decide) ?_
  obtain ⟨r_2, h_2, hE⟩ := ob hE
  refine s_calli [.int x1, .int (1 : Int32), .int (9 : Int32)] hC.sC hl.1 (wX0_in x1 (1 : Int32) (9 : Int32) r_2 h_2) (va_cwS 3 hts lkX0_58 rfl rfl rfl cdX0_in ⟨Nat.le_of_ble_eq_true rfl, Nat.le_of_ble_eq_true rfl⟩) rfl rfl (lv_room (Nat.le_of_ble_eq_true rfl)) (hB0 hB) dX0_child_14 ?_
  refine lv_if_eq (tgt := 36) hx hb dX0_child_17 (by decide) (fun c_3 => ?_) (fun c_3 => ?_)
  · have hE := ip c_3 hE
    refine lv_iconst (v := -1) hx hb dX0_child_36 (by decide) ?_
    obtain rfl := Option.some.inj hE
    exact x_iret hC hP hS hB dX0_child_37
  · have hE := iq c_3 hE
    refine lv_iload_n hx hb dX0_child_20 rfl (lv_at hl 3 rfl) ?_
    refine lv_iconst (v := 0) hx hb dX0_child_21 (by decide) ?_
    refine lv_bipush (v := 9) hx hb dX0_child_22 (by decide) ?_
    obtain ⟨r_4, h_4, hE⟩ := ob hE
    refine s_calli [.int x2, .int (0 : Int32), .int (9 : Int32)] hC.sC hl.1 (wX0_in x2 (0 : Int32) (9 : Int32) r_4 h_4) (va_cwS 3 hts lkX0_58 rfl rfl rfl cdX0_in ⟨Nat.le_of_ble_eq_true rfl, Nat.le_of_ble_eq_true rfl⟩) rfl rfl (lv_room (Nat.le_of_ble_eq_true rfl)) (hB0 hB) dX0_child_24 ?_
    refine lv_if_eq (tgt := 36) hx hb dX0_child_27 (by decide) (fun c_5 => ?_) (fun c_5 => ?_)
    · have hE := ip c_5 hE
      refine lv_iconst (v := -1) hx hb dX0_child_36 (by decide) ?_
      obtain rfl := Option.some.inj hE
      exact x_iret hC hP hS hB dX0_child_37
    · have hE := iq c_5 hE
      refine lv_iload_n hx hb dX0_child_30 rfl (lv_at hl 0 rfl) ?_
      refine lv_bipush (v := 7) hx hb dX0_child_31 (by decide) ?_
      refine lv_icmp_ne (tgt := 38) hx hb dX0_child_33 (by decide) (fun c_6 => ?_) (fun c_6 => ?_)
      · have hE := iq c_6 hE
        refine lv_aload_n hx hb dX0_child_38 rfl (lv_at hl 1 rfl) ?_
        refine gX_21 hC hP dX0_child_39 ?_
        refine gN_76_1 hC hP dX0_child_42 ?_
        refine lv_iload_n hx hb dX0_child_45 rfl (lv_at hl 0 rfl) ?_
        refine lv_iload_n hx hb dX0_child_46 rfl (lv_at hl 2 rfl) ?_
        obtain ⟨c_7, hE⟩ := og hE
        obtain ⟨z_7, ez_7, hE⟩ := on hE
        refine x_iast hC hP hS (⟨by decide, rfl, rfl⟩ : xint 10 7) c_7 ez_7 dX0_child_47 (fun H locs hP hS => ?_)
        refine lv_aload_n hx hb dX0_child_48 rfl (lv_at hl 1 rfl) ?_
        refine gX_21 hC hP dX0_child_49 ?_
        refine gN_79_1 hC hP dX0_child_52 ?_
        refine lv_iload_n hx hb dX0_child_55 rfl (lv_at hl 0 rfl) ?_
        refine lv_iload_n hx hb dX0_child_56 rfl (lv_at hl 3 rfl) ?_
        obtain ⟨c_8, hE⟩ := og hE
        obtain ⟨z_8, ez_8, hE⟩ := on hE
        refine x_iast hC hP hS (⟨by decide, rfl, rfl⟩ : xint 11 7) c_8 ez_8 dX0_child_57 (fun H locs hP hS => ?_)
        refine lv_aload_n hx hb dX0_child_58 rfl (lv_at hl 1 rfl) ?_
        refine gX_21 hC hP dX0_child_59 ?_
        refine gN_62_1 hC hP dX0_child_62 ?_
        refine lv_iconst (v := 0) hx hb dX0_child_65 (by decide) ?_
        refine lv_dup2_11 hx hb dX0_child_66 rfl rfl ?_
        refine x_iald hC hP (⟨by decide, rfl, rfl⟩ : xint 8 6) (i := (0 : Int32)) (by decide) dX0_child_67 ?_
        refine lv_iconst (v := 1) hx hb dX0_child_68 (by decide) ?_
        refine lv_iadd hx hb dX0_child_69 ?_
        obtain ⟨z_10, ez_10, hE⟩ := on hE
        refine x_iast hC hP hS (⟨by decide, rfl, rfl⟩ : xint 8 6) (i := (0 : Int32)) (by decide) ez_10 dX0_child_70 (fun H locs hP hS => ?_)
        refine lv_iload_n hx hb dX0_child_71 rfl (lv_at hl 0 rfl) ?_
        obtain rfl := Option.some.inj hE
        exact x_iret hC hP hS hB dX0_child_72
      · have hE := ip c_6 hE
        refine lv_iconst (v := -1) hx hb dX0_child_36 (by decide) ?_
        obtain rfl := Option.some.inj hE
        exact x_iret hC hP hS hB dX0_child_37
noncomputable def fX0_put_B3 (k : Nat) (v1 : Int32) (a : Int32 × XS) : Option ((Int32 × XS) ⊕ XS) := if a.1 < 0 then (some (.inr a.2)) else (if ib (a.2.1 3) 300 then none else (nm (xA a.2 3 (upd (a.2.2.1 3) (a.2.1 3).toNatClampNeg (v1 >>> (a.1 &&& 31)).toInt8.toInt32.toInt8.toInt32)) fun z_2 => nm (xI z_2 3 ((z_2.1 3) + (1 : Int32))) fun z_3 => some (.inl ((a.1 + (-8 : Int32)), z_3))))
set_option maxHeartbeats 1000000 in
theorem wX0_put_B3 {p : Program} {l : Launch} {e : Env} {s : State} {m : MethodId} {args : Array Value} {below : List Frame} {meth : Method} {c : Code} {E : XE} {Q : State → Prop} (k : Nat) (v1 : Int32) (hC : xC E RX0 cX0_put 3 none p s m args meth c) (a : Int32 × XS) (y : (Int32 × XS) ⊕ XS) (hE : fX0_put_B3 k v1 a = some y) (hc : ∀ a : Int32 × XS, y = .inl a → xW p l e rmX0_put s m args below meth c E 3 Q 0 0 3 [(0, .ref (E.2.2.1 0)), (1, .int v1), (2, .int a.1)] [] a.2) (hx1 : ∀ b : XS, y = .inr b → xW p l e rmX0_put s m args below meth c E 3 Q 0 0 36 [] [] b) : xW p l e rmX0_put s m args below meth c E 3 Q 0 0 3 [(0, .ref (E.2.2.1 0)), (1, .int v1), (2, .int a.1)] [] a.2 := by
  intro H locs cells slots ls hP hS hB hl
  have hx := hC.1
  have hb := hC.2.1
  have hown := hC.2.2.2.2.2.1
  have hts := hC.2.2.2.2.2.2.1
  unfold fX0_put_B3 at hE
  refine lv_iload_n hx hb dX0_put_3 rfl (lv_at hl 2 rfl) ?_
  refine lv_if_lt (tgt := 36) hx hb dX0_put_4 (by decide) (fun c_1 => ?_) (fun c_1 => ?_)
  · have hE := ip c_1 hE
    exact hx1 _ (Option.some.inj hE).symm H locs cells slots ls hP hS hB (lv_sub hl [] rfl)
  · have hE := iq c_1 hE
    refine lv_aload_n hx hb dX0_put_7 rfl (lv_at hl 0 rfl) ?_
    refine gX_28 hC hP dX0_put_8 ?_
    refine lv_aload_n hx hb dX0_put_11 rfl (lv_at hl 0 rfl) ?_
    refine gX_82 hC hP dX0_put_12 ?_
    refine lv_iload_n hx hb dX0_put_15 rfl (lv_at hl 1 rfl) ?_
    refine lv_iload_n hx hb dX0_put_16 rfl (lv_at hl 2 rfl) ?_
    refine lv_ishr hx hb dX0_put_17 ?_
    refine lv_i2b hx hb dX0_put_18 rfl ?_
    obtain ⟨c_2, hE⟩ := og hE
    obtain ⟨z_2, ez_2, hE⟩ := on hE
    refine x_bast hC hP hS c_2 ez_2 dX0_put_19 (fun H locs hP hS => ?_)
    refine lv_aload_n hx hb dX0_put_20 rfl (lv_at hl 0 rfl) ?_
    refine lv_dup hx hb dX0_put_21 rfl ?_
    refine gX_82 hC hP dX0_put_22 ?_
    refine lv_iconst (v := 1) hx hb dX0_put_25 (by decide) ?_
    refine lv_iadd hx hb dX0_put_26 ?_
    obtain ⟨z_3, ez_3, hE⟩ := on hE
    refine pX_82 hC hP hS ez_3 dX0_put_27 (fun H locs hP hS => ?_)
    refine lv_iinc (v := (a.1 + (-8 : Int32))) (lv' := [(2, .int (a.1 + (-8 : Int32))), (0, .ref (E.2.2.1 0)), (1, .int v1)]) hx hb dX0_put_30 hl (k := 2) rfl rfl (Nat.le_of_ble_eq_true rfl) rfl (fun ls hl => ?_)
    refine lv_goto (tgt := 3) hx hb dX0_put_33 (by decide) ?_
    exact hc _ (Option.some.inj hE).symm H locs cells slots ls hP hS hB (lv_sub hl [1, 2, 0] rfl)
noncomputable def fX0_put (k : Nat) (z : XS) (x1 : Int32) : Option XS := (lpo (fX0_put_B3 k x1) k ((24 : Int32), z)).bind fun x_4 => some x_4
set_option maxHeartbeats 1000000 in
theorem wX0_put {l : Launch} {E : XE} (k : Nat) (z : XS) (x1 : Int32) (y : XS) (hE : fX0_put k z x1 = some y) : xM l yX0_put (ws_ yX0_put cX0_put 3 none) rmX0_put E z [.ref (E.2.2.1 0), .int x1] none y := by
  refine x_met (own := RX0) (by decide) rfl (Nat.le_of_ble_eq_true rfl) (fun p e s m args below meth c hC => ?_)
  intro H locs cells slots ls hP hS hB hl
  have hx := hC.1
  have hb := hC.2.1
  have hown := hC.2.2.2.2.2.1
  have hts := hC.2.2.2.2.2.2.1
  have hl : lv_has ls 3 [(0, .ref (E.2.2.1 0)), (1, .int x1)] := hl
  unfold fX0_put at hE
  refine lv_bipush (v := 24) hx hb dX0_put_0 (by decide) ?_
  refine lv_istore_n (lv' := [(2, .int (24 : Int32)), (0, .ref (E.2.2.1 0)), (1, .int x1)]) hx hb dX0_put_2 rfl hl (Nat.le_of_ble_eq_true rfl) rfl (fun ls hl => ?_)
  obtain ⟨x_4, h_4, hE⟩ := ob hE
  refine lpo_walk (fun p_4 : Int32 × XS => xW p l e rmX0_put s m args below meth c E 3 (xQ E rmX0_put below args s none y) 0 0 3 [(0, .ref (E.2.2.1 0)), (1, .int x1), (2, .int p_4.1)] [] p_4.2) (fun q_4 : XS => xW p l e rmX0_put s m args below meth c E 3 (xQ E rmX0_put below args s none y) 0 0 36 [] [] q_4) (fun a_4 y_4 hB_4 hc_4 hx_4 => wX0_put_B3 k x1 hC a_4 y_4 hB_4 hc_4 hx_4) _ _ x_4 h_4 ?_ H locs cells slots ls hP hS hB (lv_sub hl [1, 2, 0] rfl)
  intro H locs cells slots ls hP hS hB hl
  obtain rfl := Option.some.inj hE
  exact x_vret hC hP hS hB dX0_put_36
noncomputable def fX0_feed (k : Nat) (z : XS) (x1 : Int32) (x2 : Int32) (x3 : Int32) (x4 : Int32) (x5 : Int32) : Option (Int32 × XS) := if ((z.1 3) + (20 : Int32)) ≤ (300 : Int32) then ((fX0_put k z x1).bind fun r_2 => (fX0_put k r_2 x2).bind fun r_3 => (fX0_put k r_3 x3).bind fun r_4 => (fX0_put k r_4 x4).bind fun r_5 => (fX0_put k r_5 x5).bind fun r_6 => some ((r_6.1 3), r_6)) else (some ((-1 : Int32), z))
set_option maxHeartbeats 1000000 in
theorem wX0_feed {l : Launch} {E : XE} (k : Nat) (z : XS) (x1 : Int32) (x2 : Int32) (x3 : Int32) (x4 : Int32) (x5 : Int32) (y : Int32 × XS) (hE : fX0_feed k z x1 x2 x3 x4 x5 = some y) : xM l yX0_feed (ws_ yX0_feed cX0_feed 6 (some .int)) rmX0_feed E z [.ref (E.2.2.1 0), .int x1, .int x2, .int x3, .int x4, .int x5] (some (.int y.1)) y.2 := by
  refine x_met (own := RX0) (by decide) rfl (Nat.le_of_ble_eq_true rfl) (fun p e s m args below meth c hC => ?_)
  intro H locs cells slots ls hP hS hB hl
  have hx := hC.1
  have hb := hC.2.1
  have hown := hC.2.2.2.2.2.1
  have hts := hC.2.2.2.2.2.2.1
  have hl : lv_has ls 6 [(0, .ref (E.2.2.1 0)), (1, .int x1), (2, .int x2), (3, .int x3), (4, .int x4), (5, .int x5)] := hl
  unfold fX0_feed at hE
  refine lv_aload_n hx hb dX0_feed_0 rfl (lv_at hl 0 rfl) ?_
  refine gX_82 hC hP dX0_feed_1 ?_
  refine lv_bipush (v := 20) hx hb dX0_feed_4 (by decide) ?_
  refine lv_iadd hx hb dX0_feed_6 ?_
  refine lv_sipush (v := 300) hx hb dX0_feed_7 (by decide) ?_
  refine lv_icmp_le (tgt := 15) hx hb dX0_feed_10 (by decide) (fun c_1 => ?_) (fun c_1 => ?_)
  · have hE := ip c_1 hE
    refine lv_aload_n hx hb dX0_feed_15 rfl (lv_at hl 0 rfl) ?_
    refine lv_iload_n hx hb dX0_feed_16 rfl (lv_at hl 1 rfl) ?_
    obtain ⟨r_2, h_2, hE⟩ := ob hE
    refine x_callV (rc1 := _) (rs1 := _) [.int x1] (E.2.2.1 0) hC hP hS hB hl.1 (wX0_put k z x1 r_2 h_2) (xC.c0 hC) (xw_get E _ (k := 0) (by decide)) (cwV 1 hts lkX0_85 rfl rfl rfl cdX0_put ⟨Nat.le_of_ble_eq_true rfl, Nat.le_of_ble_eq_true rfl⟩) rfl rfl (lv_room (Nat.le_of_ble_eq_true rfl)) ⟨Nat.le_of_eq (Nat.zero_add _), Nat.le_of_eq (Nat.zero_add _)⟩ dX0_feed_17 (fun H locs cells slots hP hS hB => ?_)
    show W p l e _ s m args below meth c H locs cells slots _ (F0 m _ ls ([]))
    refine lv_aload_n hx hb dX0_feed_20 rfl (lv_at hl 0 rfl) ?_
    refine lv_iload_n hx hb dX0_feed_21 rfl (lv_at hl 2 rfl) ?_
    obtain ⟨r_3, h_3, hE⟩ := ob hE
    refine x_callV (rc1 := _) (rs1 := _) [.int x2] (E.2.2.1 0) hC hP hS hB hl.1 (wX0_put k r_2 x2 r_3 h_3) (xC.c0 hC) (xw_get E _ (k := 0) (by decide)) (cwV 1 hts lkX0_85 rfl rfl rfl cdX0_put ⟨Nat.le_of_ble_eq_true rfl, Nat.le_of_ble_eq_true rfl⟩) rfl rfl (lv_room (Nat.le_of_ble_eq_true rfl)) ⟨Nat.le_of_eq (Nat.zero_add _), Nat.le_of_eq (Nat.zero_add _)⟩ dX0_feed_22 (fun H locs cells slots hP hS hB => ?_)
    show W p l e _ s m args below meth c H locs cells slots _ (F0 m _ ls ([]))
    refine lv_aload_n hx hb dX0_feed_25 rfl (lv_at hl 0 rfl) ?_
    refine lv_iload_n hx hb dX0_feed_26 rfl (lv_at hl 3 rfl) ?_
    obtain ⟨r_4, h_4, hE⟩ := ob hE
    refine x_callV (rc1 := _) (rs1 := _) [.int x3] (E.2.2.1 0) hC hP hS hB hl.1 (wX0_put k r_3 x3 r_4 h_4) (xC.c0 hC) (xw_get E _ (k := 0) (by decide)) (cwV 1 hts lkX0_85 rfl rfl rfl cdX0_put ⟨Nat.le_of_ble_eq_true rfl, Nat.le_of_ble_eq_true rfl⟩) rfl rfl (lv_room (Nat.le_of_ble_eq_true rfl)) ⟨Nat.le_of_eq (Nat.zero_add _), Nat.le_of_eq (Nat.zero_add _)⟩ dX0_feed_27 (fun H locs cells slots hP hS hB => ?_)
    show W p l e _ s m args below meth c H locs cells slots _ (F0 m _ ls ([]))
    refine lv_aload_n hx hb dX0_feed_30 rfl (lv_at hl 0 rfl) ?_
    refine lv_iload hx hb dX0_feed_31 (lv_at hl 4 rfl) ?_
    obtain ⟨r_5, h_5, hE⟩ := ob hE
    refine x_callV (rc1 := _) (rs1 := _) [.int x4] (E.2.2.1 0) hC hP hS hB hl.1 (wX0_put k r_4 x4 r_5 h_5) (xC.c0 hC) (xw_get E _ (k := 0) (by decide)) (cwV 1 hts lkX0_85 rfl rfl rfl cdX0_put ⟨Nat.le_of_ble_eq_true rfl, Nat.le_of_ble_eq_true rfl⟩) rfl rfl (lv_room (Nat.le_of_ble_eq_true rfl)) ⟨Nat.le_of_eq (Nat.zero_add _), Nat.le_of_eq (Nat.zero_add _)⟩ dX0_feed_33 (fun H locs cells slots hP hS hB => ?_)
    show W p l e _ s m args below meth c H locs cells slots _ (F0 m _ ls ([]))
    refine lv_aload_n hx hb dX0_feed_36 rfl (lv_at hl 0 rfl) ?_
    refine lv_iload hx hb dX0_feed_37 (lv_at hl 5 rfl) ?_
    obtain ⟨r_6, h_6, hE⟩ := ob hE
    refine x_callV (rc1 := _) (rs1 := _) [.int x5] (E.2.2.1 0) hC hP hS hB hl.1 (wX0_put k r_5 x5 r_6 h_6) (xC.c0 hC) (xw_get E _ (k := 0) (by decide)) (cwV 1 hts lkX0_85 rfl rfl rfl cdX0_put ⟨Nat.le_of_ble_eq_true rfl, Nat.le_of_ble_eq_true rfl⟩) rfl rfl (lv_room (Nat.le_of_ble_eq_true rfl)) ⟨Nat.le_of_eq (Nat.zero_add _), Nat.le_of_eq (Nat.zero_add _)⟩ dX0_feed_39 (fun H locs cells slots hP hS hB => ?_)
    show W p l e _ s m args below meth c H locs cells slots _ (F0 m _ ls ([]))
    refine lv_aload_n hx hb dX0_feed_42 rfl (lv_at hl 0 rfl) ?_
    refine gX_82 hC hP dX0_feed_43 ?_
    obtain rfl := Option.some.inj hE
    exact x_iret hC hP hS hB dX0_feed_46
  · have hE := iq c_1 hE
    refine lv_iconst (v := -1) hx hb dX0_feed_13 (by decide) ?_
    obtain rfl := Option.some.inj hE
    exact x_iret hC hP hS hB dX0_feed_14
noncomputable def fX0_end (z : XS) (x1 : Int32) : Option (Int32 × XS) := (fX0_in x1 (0 : Int32) (z.1 3)).bind fun r_1 => if r_1 = 0 then (some ((-1 : Int32), z)) else (nm (xI z 3 x1) fun z_3 => some (x1, z_3))
set_option maxHeartbeats 1000000 in
theorem wX0_end {l : Launch} {E : XE} (z : XS) (x1 : Int32) (y : Int32 × XS) (hE : fX0_end z x1 = some y) : xM l yX0_end (ws_ yX0_end cX0_end 2 (some .int)) rmX0_end E z [.ref (E.2.2.1 0), .int x1] (some (.int y.1)) y.2 := by
  refine x_met (own := RX0) (by decide) rfl (Nat.le_of_ble_eq_true rfl) (fun p e s m args below meth c hC => ?_)
  intro H locs cells slots ls hP hS hB hl
  have hx := hC.1
  have hb := hC.2.1
  have hown := hC.2.2.2.2.2.1
  have hts := hC.2.2.2.2.2.2.1
  have hl : lv_has ls 2 [(0, .ref (E.2.2.1 0)), (1, .int x1)] := hl
  unfold fX0_end at hE
  refine lv_iload_n hx hb dX0_end_0 rfl (lv_at hl 1 rfl) ?_
  refine lv_iconst (v := 0) hx hb dX0_end_1 (by decide) ?_
  refine lv_aload_n hx hb dX0_end_2 rfl (lv_at hl 0 rfl) ?_
  refine gX_82 hC hP dX0_end_3 ?_
  obtain ⟨r_1, h_1, hE⟩ := ob hE
  refine s_calli [.int x1, .int (0 : Int32), .int (z.1 3)] hC.sC hl.1 (wX0_in x1 (0 : Int32) (z.1 3) r_1 h_1) (va_cwS 3 hts lkX0_58 rfl rfl rfl cdX0_in ⟨Nat.le_of_ble_eq_true rfl, Nat.le_of_ble_eq_true rfl⟩) rfl rfl (lv_room (Nat.le_of_ble_eq_true rfl)) (hB0 hB) dX0_end_6 ?_
  refine lv_if_ne (tgt := 14) hx hb dX0_end_9 (by decide) (fun c_2 => ?_) (fun c_2 => ?_)
  · have hE := iq c_2 hE
    refine lv_aload_n hx hb dX0_end_14 rfl (lv_at hl 0 rfl) ?_
    refine lv_iload_n hx hb dX0_end_15 rfl (lv_at hl 1 rfl) ?_
    obtain ⟨z_3, ez_3, hE⟩ := on hE
    refine pX_82 hC hP hS ez_3 dX0_end_16 (fun H locs hP hS => ?_)
    refine lv_iload_n hx hb dX0_end_19 rfl (lv_at hl 1 rfl) ?_
    obtain rfl := Option.some.inj hE
    exact x_iret hC hP hS hB dX0_end_20
  · have hE := ip c_2 hE
    refine lv_iconst (v := -1) hx hb dX0_end_12 (by decide) ?_
    obtain rfl := Option.some.inj hE
    exact x_iret hC hP hS hB dX0_end_13
noncomputable def fX0_fault (z : XS) (x1 : Int32) : Option Int32 := if x1 = 0 then (some (z.1 4)) else (if x1 = (1 : Int32) then (some (z.1 5)) else (some (-1 : Int32)))
set_option maxHeartbeats 1000000 in
theorem wX0_fault {l : Launch} {E : XE} (z : XS) (x1 : Int32) (y : Int32) (hE : fX0_fault z x1 = some y) : xM l yX0_fault (ws_ yX0_fault cX0_fault 2 (some .int)) rmX0_fault E z [.ref (E.2.2.1 0), .int x1] (some (.int y)) z := by
  refine x_met (own := RX0) (by decide) rfl (Nat.le_of_ble_eq_true rfl) (fun p e s m args below meth c hC => ?_)
  intro H locs cells slots ls hP hS hB hl
  have hx := hC.1
  have hb := hC.2.1
  have hown := hC.2.2.2.2.2.1
  have hts := hC.2.2.2.2.2.2.1
  have hl : lv_has ls 2 [(0, .ref (E.2.2.1 0)), (1, .int x1)] := hl
  unfold fX0_fault at hE
  refine lv_iload_n hx hb dX0_fault_0 rfl (lv_at hl 1 rfl) ?_
  refine lv_if_ne (tgt := 11) hx hb dX0_fault_1 (by decide) (fun c_1 => ?_) (fun c_1 => ?_)
  · have hE := iq c_1 hE
    refine lv_iload_n hx hb dX0_fault_11 rfl (lv_at hl 1 rfl) ?_
    refine lv_iconst (v := 1) hx hb dX0_fault_12 (by decide) ?_
    refine lv_icmp_ne (tgt := 23) hx hb dX0_fault_13 (by decide) (fun c_2 => ?_) (fun c_2 => ?_)
    · have hE := iq c_2 hE
      refine lv_iconst (v := -1) hx hb dX0_fault_23 (by decide) ?_
      obtain rfl := Option.some.inj hE
      exact x_iret hC hP hS hB dX0_fault_24
    · have hE := ip c_2 hE
      refine lv_aload_n hx hb dX0_fault_16 rfl (lv_at hl 0 rfl) ?_
      refine gX_36 hC hP dX0_fault_17 ?_
      refine lv_goto (tgt := 24) hx hb dX0_fault_20 (by decide) ?_
      obtain rfl := Option.some.inj hE
      exact x_iret hC hP hS hB dX0_fault_24
  · have hE := ip c_1 hE
    refine lv_aload_n hx hb dX0_fault_4 rfl (lv_at hl 0 rfl) ?_
    refine gX_32 hC hP dX0_fault_5 ?_
    refine lv_goto (tgt := 24) hx hb dX0_fault_8 (by decide) ?_
    obtain rfl := Option.some.inj hE
    exact x_iret hC hP hS hB dX0_fault_24
noncomputable def fX0_isText (z : XS) (x1 : Int32) : Option Int32 := (fX0_in x1 (0 : Int32) ((z.2.1 8 (1 : Int32).toNatClampNeg) - (1 : Int32))).bind fun r_2 => if ¬ r_2 &&& 1 = r_2 then none else some r_2
set_option maxHeartbeats 1000000 in
theorem wX0_isText {l : Launch} {E : XE} (z : XS) (x1 : Int32) (y : Int32) (hE : fX0_isText z x1 = some y) : xM l yX0_isText (ws_ yX0_isText cX0_isText 2 (some .boolean)) rmX0_isText E z [.ref (E.2.2.1 0), .int x1] (some (.int y)) z := by
  refine x_met (own := RX0) (by decide) rfl (Nat.le_of_ble_eq_true rfl) (fun p e s m args below meth c hC => ?_)
  intro H locs cells slots ls hP hS hB hl
  have hx := hC.1
  have hb := hC.2.1
  have hown := hC.2.2.2.2.2.1
  have hts := hC.2.2.2.2.2.2.1
  have hl : lv_has ls 2 [(0, .ref (E.2.2.1 0)), (1, .int x1)] := hl
  unfold fX0_isText at hE
  refine lv_iload_n hx hb dX0_isText_0 rfl (lv_at hl 1 rfl) ?_
  refine lv_iconst (v := 0) hx hb dX0_isText_1 (by decide) ?_
  refine lv_aload_n hx hb dX0_isText_2 rfl (lv_at hl 0 rfl) ?_
  refine gX_21 hC hP dX0_isText_3 ?_
  refine gN_62_1 hC hP dX0_isText_6 ?_
  refine lv_iconst (v := 1) hx hb dX0_isText_9 (by decide) ?_
  refine x_iald hC hP (⟨by decide, rfl, rfl⟩ : xint 8 6) (i := (1 : Int32)) (by decide) dX0_isText_10 ?_
  refine lv_iconst (v := 1) hx hb dX0_isText_11 (by decide) ?_
  refine lv_isub hx hb dX0_isText_12 ?_
  obtain ⟨r_2, h_2, hE⟩ := ob hE
  refine s_calli [.int x1, .int (0 : Int32), .int ((z.2.1 8 (1 : Int32).toNatClampNeg) - (1 : Int32))] hC.sC hl.1 (wX0_in x1 (0 : Int32) ((z.2.1 8 (1 : Int32).toNatClampNeg) - (1 : Int32)) r_2 h_2) (va_cwS 3 hts lkX0_58 rfl rfl rfl cdX0_in ⟨Nat.le_of_ble_eq_true rfl, Nat.le_of_ble_eq_true rfl⟩) rfl rfl (lv_room (Nat.le_of_ble_eq_true rfl)) (hB0 hB) dX0_isText_13 ?_
  obtain ⟨c_3, hE⟩ := og hE
  obtain rfl := Option.some.inj hE
  exact x_zret hC hP hS hB (Decidable.not_not.mp c_3) dX0_isText_16
noncomputable def fX0_by_J15 (z : XS) (x1 : Int32) : Option (Int32 × XS) := nm (xA z 8 (upd (z.2.1 8) (2 : Int32).toNatClampNeg x1)) fun z_2 => some ((1 : Int32), z_2)
set_option maxHeartbeats 1000000 in
theorem wX0_by_J15 {p : Program} {l : Launch} {e : Env} {s : State} {m : MethodId} {args : Array Value} {below : List Frame} {meth : Method} {c : Code} {E : XE} (z : XS) (x1 : Int32) (hC : xC E RX0 cX0_by 2 (some .boolean) p s m args meth c) (y : Int32 × XS) (hE : fX0_by_J15 z x1 = some y) : xW p l e rmX0_by s m args below meth c E 2 (xQ E rmX0_by below args s (some (.int y.1)) y.2) 0 0 15 [(0, .ref (E.2.2.1 0)), (1, .int x1)] [] z := by
  intro H locs cells slots ls hP hS hB hl
  have hx := hC.1
  have hb := hC.2.1
  have hown := hC.2.2.2.2.2.1
  have hts := hC.2.2.2.2.2.2.1
  unfold fX0_by_J15 at hE
  refine lv_aload_n hx hb dX0_by_15 rfl (lv_at hl 0 rfl) ?_
  refine gX_21 hC hP dX0_by_16 ?_
  refine gN_62_1 hC hP dX0_by_19 ?_
  refine lv_iconst (v := 2) hx hb dX0_by_22 (by decide) ?_
  refine lv_iload_n hx hb dX0_by_23 rfl (lv_at hl 1 rfl) ?_
  obtain ⟨z_2, ez_2, hE⟩ := on hE
  refine x_iast hC hP hS (⟨by decide, rfl, rfl⟩ : xint 8 6) (i := (2 : Int32)) (by decide) ez_2 dX0_by_24 (fun H locs hP hS => ?_)
  refine lv_iconst (v := 1) hx hb dX0_by_25 (by decide) ?_
  obtain rfl := Option.some.inj hE
  exact x_zret (v := (1 : Int32)) hC hP hS hB (by decide) dX0_by_26
noncomputable def fX0_by (z : XS) (x1 : Int32) : Option (Int32 × XS) := if x1 = (-1 : Int32) then ((fX0_by_J15 z x1)) else ((fX0_isText z x1).bind fun r_3 => if r_3 = 0 then (some ((0 : Int32), z)) else ((fX0_by_J15 z x1)))
set_option maxHeartbeats 1000000 in
theorem wX0_by {l : Launch} {E : XE} (z : XS) (x1 : Int32) (y : Int32 × XS) (hE : fX0_by z x1 = some y) : xM l yX0_by (ws_ yX0_by cX0_by 2 (some .boolean)) rmX0_by E z [.ref (E.2.2.1 0), .int x1] (some (.int y.1)) y.2 := by
  refine x_met (own := RX0) (by decide) rfl (Nat.le_of_ble_eq_true rfl) (fun p e s m args below meth c hC => ?_)
  intro H locs cells slots ls hP hS hB hl
  have hx := hC.1
  have hb := hC.2.1
  have hown := hC.2.2.2.2.2.1
  have hts := hC.2.2.2.2.2.2.1
  have hl : lv_has ls 2 [(0, .ref (E.2.2.1 0)), (1, .int x1)] := hl
  unfold fX0_by at hE
  refine lv_iload_n hx hb dX0_by_0 rfl (lv_at hl 1 rfl) ?_
  refine lv_iconst (v := -1) hx hb dX0_by_1 (by decide) ?_
  refine lv_icmp_eq (tgt := 15) hx hb dX0_by_2 (by decide) (fun c_1 => ?_) (fun c_1 => ?_)
  · have hE := ip c_1 hE
    exact wX0_by_J15 z x1 hC y hE H locs cells slots ls hP hS hB hl
  · have hE := iq c_1 hE
    refine lv_aload_n hx hb dX0_by_5 rfl (lv_at hl 0 rfl) ?_
    refine lv_iload_n hx hb dX0_by_6 rfl (lv_at hl 1 rfl) ?_
    obtain ⟨r_3, h_3, hE⟩ := ob hE
    refine x_callV (rc1 := _) (rs1 := _) [.int x1] (E.2.2.1 0) hC hP hS hB hl.1 (wX0_isText z x1 r_3 h_3) (xC.c0 hC) (xw_get E _ (k := 0) (by decide)) (cwV 1 hts lkX0_108 rfl rfl rfl cdX0_isText ⟨Nat.le_of_ble_eq_true rfl, Nat.le_of_ble_eq_true rfl⟩) rfl rfl (lv_room (Nat.le_of_ble_eq_true rfl)) ⟨Nat.le_of_eq (Nat.zero_add _), Nat.le_of_eq (Nat.zero_add _)⟩ dX0_by_7 (fun H locs cells slots hP hS hB => ?_)
    show W p l e _ s m args below meth c H locs cells slots _ (F0 m _ ls (.int r_3 :: []))
    refine lv_if_ne (tgt := 15) hx hb dX0_by_10 (by decide) (fun c_4 => ?_) (fun c_4 => ?_)
    · have hE := iq c_4 hE
      exact wX0_by_J15 z x1 hC y hE H locs cells slots ls hP hS hB hl
    · have hE := ip c_4 hE
      refine lv_iconst (v := 0) hx hb dX0_by_13 (by decide) ?_
      obtain rfl := Option.some.inj hE
      exact x_zret (v := (0 : Int32)) hC hP hS hB (by decide) dX0_by_14
noncomputable def fX0_isChild (z : XS) (x1 : Int32) : Option Int32 := (fX0_in x1 (0 : Int32) ((z.2.1 8 (0 : Int32).toNatClampNeg) - (1 : Int32))).bind fun r_2 => if ¬ r_2 &&& 1 = r_2 then none else some r_2
set_option maxHeartbeats 1000000 in
theorem wX0_isChild {l : Launch} {E : XE} (z : XS) (x1 : Int32) (y : Int32) (hE : fX0_isChild z x1 = some y) : xM l yX0_isChild (ws_ yX0_isChild cX0_isChild 2 (some .boolean)) rmX0_isChild E z [.ref (E.2.2.1 0), .int x1] (some (.int y)) z := by
  refine x_met (own := RX0) (by decide) rfl (Nat.le_of_ble_eq_true rfl) (fun p e s m args below meth c hC => ?_)
  intro H locs cells slots ls hP hS hB hl
  have hx := hC.1
  have hb := hC.2.1
  have hown := hC.2.2.2.2.2.1
  have hts := hC.2.2.2.2.2.2.1
  have hl : lv_has ls 2 [(0, .ref (E.2.2.1 0)), (1, .int x1)] := hl
  unfold fX0_isChild at hE
  refine lv_iload_n hx hb dX0_isChild_0 rfl (lv_at hl 1 rfl) ?_
  refine lv_iconst (v := 0) hx hb dX0_isChild_1 (by decide) ?_
  refine lv_aload_n hx hb dX0_isChild_2 rfl (lv_at hl 0 rfl) ?_
  refine gX_21 hC hP dX0_isChild_3 ?_
  refine gN_62_1 hC hP dX0_isChild_6 ?_
  refine lv_iconst (v := 0) hx hb dX0_isChild_9 (by decide) ?_
  refine x_iald hC hP (⟨by decide, rfl, rfl⟩ : xint 8 6) (i := (0 : Int32)) (by decide) dX0_isChild_10 ?_
  refine lv_iconst (v := 1) hx hb dX0_isChild_11 (by decide) ?_
  refine lv_isub hx hb dX0_isChild_12 ?_
  obtain ⟨r_2, h_2, hE⟩ := ob hE
  refine s_calli [.int x1, .int (0 : Int32), .int ((z.2.1 8 (0 : Int32).toNatClampNeg) - (1 : Int32))] hC.sC hl.1 (wX0_in x1 (0 : Int32) ((z.2.1 8 (0 : Int32).toNatClampNeg) - (1 : Int32)) r_2 h_2) (va_cwS 3 hts lkX0_58 rfl rfl rfl cdX0_in ⟨Nat.le_of_ble_eq_true rfl, Nat.le_of_ble_eq_true rfl⟩) rfl rfl (lv_room (Nat.le_of_ble_eq_true rfl)) (hB0 hB) dX0_isChild_13 ?_
  obtain ⟨c_3, hE⟩ := og hE
  obtain rfl := Option.some.inj hE
  exact x_zret hC hP hS hB (Decidable.not_not.mp c_3) dX0_isChild_16
noncomputable def fX0_canRun (z : XS) (x1 : Int32) : Option Int32 := (fX0_isChild z x1).bind fun r_1 => if r_1 = 0 then (some (0 : Int32)) else (if ib ((62 : Int32) + x1) 190 then none else (if (z.2.1 9 ((62 : Int32) + x1).toNatClampNeg) = (-1 : Int32) then (some (1 : Int32)) else (some (0 : Int32))))
set_option maxHeartbeats 1000000 in
theorem wX0_canRun {l : Launch} {E : XE} (z : XS) (x1 : Int32) (y : Int32) (hE : fX0_canRun z x1 = some y) : xM l yX0_canRun (ws_ yX0_canRun cX0_canRun 2 (some .boolean)) rmX0_canRun E z [.ref (E.2.2.1 0), .int x1] (some (.int y)) z := by
  refine x_met (own := RX0) (by decide) rfl (Nat.le_of_ble_eq_true rfl) (fun p e s m args below meth c hC => ?_)
  intro H locs cells slots ls hP hS hB hl
  have hx := hC.1
  have hb := hC.2.1
  have hown := hC.2.2.2.2.2.1
  have hts := hC.2.2.2.2.2.2.1
  have hl : lv_has ls 2 [(0, .ref (E.2.2.1 0)), (1, .int x1)] := hl
  unfold fX0_canRun at hE
  refine lv_aload_n hx hb dX0_canRun_0 rfl (lv_at hl 0 rfl) ?_
  refine lv_iload_n hx hb dX0_canRun_1 rfl (lv_at hl 1 rfl) ?_
  obtain ⟨r_1, h_1, hE⟩ := ob hE
  refine x_callV (rc1 := _) (rs1 := _) [.int x1] (E.2.2.1 0) hC hP hS hB hl.1 (wX0_isChild z x1 r_1 h_1) (xC.c0 hC) (xw_get E _ (k := 0) (by decide)) (cwV 1 hts lkX0_159 rfl rfl rfl cdX0_isChild ⟨Nat.le_of_ble_eq_true rfl, Nat.le_of_ble_eq_true rfl⟩) rfl rfl (lv_room (Nat.le_of_ble_eq_true rfl)) ⟨Nat.le_of_eq (Nat.zero_add _), Nat.le_of_eq (Nat.zero_add _)⟩ dX0_canRun_2 (fun H locs cells slots hP hS hB => ?_)
  show W p l e _ s m args below meth c H locs cells slots _ (F0 m _ ls (.int r_1 :: []))
  refine lv_if_eq (tgt := 28) hx hb dX0_canRun_5 (by decide) (fun c_2 => ?_) (fun c_2 => ?_)
  · have hE := ip c_2 hE
    refine lv_iconst (v := 0) hx hb dX0_canRun_28 (by decide) ?_
    obtain rfl := Option.some.inj hE
    exact x_zret (v := (0 : Int32)) hC hP hS hB (by decide) dX0_canRun_29
  · have hE := iq c_2 hE
    refine lv_aload_n hx hb dX0_canRun_8 rfl (lv_at hl 0 rfl) ?_
    refine gX_21 hC hP dX0_canRun_9 ?_
    refine gN_65_1 hC hP dX0_canRun_12 ?_
    refine lv_bipush (v := 62) hx hb dX0_canRun_15 (by decide) ?_
    refine lv_iload_n hx hb dX0_canRun_17 rfl (lv_at hl 1 rfl) ?_
    refine lv_iadd hx hb dX0_canRun_18 ?_
    obtain ⟨c_3, hE⟩ := og hE
    refine x_iald hC hP (⟨by decide, rfl, rfl⟩ : xint 9 190) c_3 dX0_canRun_19 ?_
    refine lv_iconst (v := -1) hx hb dX0_canRun_20 (by decide) ?_
    refine lv_icmp_ne (tgt := 28) hx hb dX0_canRun_21 (by decide) (fun c_4 => ?_) (fun c_4 => ?_)
    · have hE := iq c_4 hE
      refine lv_iconst (v := 0) hx hb dX0_canRun_28 (by decide) ?_
      obtain rfl := Option.some.inj hE
      exact x_zret (v := (0 : Int32)) hC hP hS hB (by decide) dX0_canRun_29
    · have hE := ip c_4 hE
      refine lv_iconst (v := 1) hx hb dX0_canRun_24 (by decide) ?_
      refine lv_goto (tgt := 29) hx hb dX0_canRun_25 (by decide) ?_
      obtain rfl := Option.some.inj hE
      exact x_zret (v := (1 : Int32)) hC hP hS hB (by decide) dX0_canRun_29
noncomputable def fX1_keeps_J52 (k : Nat) (z : XS)  : Option (XS) := if ib (z.2.1 8 (3 : Int32).toNatClampNeg) 30 then none else (nm (xA z (70 + (z.2.1 8 (3 : Int32).toNatClampNeg).toNatClampNeg) (va_cpy (z.2.1 9) (z.2.1 (70 + (z.2.1 8 (3 : Int32).toNatClampNeg).toNatClampNeg)) 0 0 190)) fun z_5 => nm (xA z_5 8 (upd (z_5.2.1 8) (3 : Int32).toNatClampNeg ((z_5.2.1 8 (3 : Int32).toNatClampNeg) + (1 : Int32)))) fun z_7 => some z_7)
set_option maxHeartbeats 1000000 in
theorem wX1_keeps_J52 {p : Program} {l : Launch} {e : Env} {s : State} {m : MethodId} {args : Array Value} {below : List Frame} {meth : Method} {c : Code} {E : XE} (k : Nat) (z : XS)  (hC : xC E RX1 cX1_keeps 2 none p s m args meth c) (y : XS) (hE : fX1_keeps_J52 k z  = some y) : xW p l e rmX1_keeps s m args below meth c E 2 (xQ E rmX1_keeps below args s none y) 0 0 52 [(0, .ref (E.2.2.1 1))] [] z := by
  intro H locs cells slots ls hP hS hB hl
  have hx := hC.1
  have hb := hC.2.1
  have hown := hC.2.2.2.2.2.1
  have hts := hC.2.2.2.2.2.2.1
  unfold fX1_keeps_J52 at hE
  refine lv_aload_n hx hb dX1_keeps_52 rfl (lv_at hl 0 rfl) ?_
  refine gS_15_1 hC hP dX1_keeps_53 ?_
  refine lv_aload_n hx hb dX1_keeps_56 rfl (lv_at hl 0 rfl) ?_
  refine gS_35_1 hC hP dX1_keeps_57 ?_
  refine lv_aload_n hx hb dX1_keeps_60 rfl (lv_at hl 0 rfl) ?_
  refine gS_9_1 hC hP dX1_keeps_61 ?_
  refine lv_iconst (v := 3) hx hb dX1_keeps_64 (by decide) ?_
  refine x_iald hC hP (⟨by decide, rfl, rfl⟩ : xint 8 6) (i := (3 : Int32)) (by decide) dX1_keeps_65 ?_
  obtain ⟨c_4, hE⟩ := og hE
  refine x_aald hC hP xo_15 c_4 dX1_keeps_66 ?_
  obtain ⟨z_5, ez_5, hE⟩ := on hE
  refine x_callS (rc1 := _) (rs1 := _) [.ref (E.2.2.1 9), .ref (E.2.2.1 (70 + (z.2.1 8 (3 : Int32).toNatClampNeg).toNatClampNeg))] hC hP hS hB hl.1 (wX1_copy (n := 190) (⟨by decide, rfl, rfl⟩ : xint 9 190) (xrow xo_15 c_4) (by decide) ez_5) (va_cwS 2 hts lkX1_56 rfl rfl rfl cdX1_copy ⟨Nat.le_of_ble_eq_true rfl, Nat.le_of_ble_eq_true rfl⟩) rfl rfl (lv_room (Nat.le_of_ble_eq_true rfl)) ⟨Nat.le_of_eq (Nat.zero_add _), Nat.le_of_eq (Nat.zero_add _)⟩ dX1_keeps_67 (fun H locs cells slots hP hS hB => ?_)
  refine lv_aload_n hx hb dX1_keeps_70 rfl (lv_at hl 0 rfl) ?_
  refine gS_9_1 hC hP dX1_keeps_71 ?_
  refine lv_iconst (v := 3) hx hb dX1_keeps_74 (by decide) ?_
  refine lv_dup2_11 hx hb dX1_keeps_75 rfl rfl ?_
  refine x_iald hC hP (⟨by decide, rfl, rfl⟩ : xint 8 6) (i := (3 : Int32)) (by decide) dX1_keeps_76 ?_
  refine lv_iconst (v := 1) hx hb dX1_keeps_77 (by decide) ?_
  refine lv_iadd hx hb dX1_keeps_78 ?_
  obtain ⟨z_7, ez_7, hE⟩ := on hE
  refine x_iast hC hP hS (⟨by decide, rfl, rfl⟩ : xint 8 6) (i := (3 : Int32)) (by decide) ez_7 dX1_keeps_79 (fun H locs hP hS => ?_)
  obtain rfl := Option.some.inj hE
  exact x_vret hC hP hS hB dX1_keeps_80
noncomputable def fX1_keeps_B13 (k : Nat)  (a : Int32 × XS) : Option ((Int32 × XS) ⊕ XS) := if (30 : Int32) ≤ a.1 then (some (.inr a.2)) else (if ib a.1 30 then none else (if ib (a.1 - (1 : Int32)) 30 then none else (nm (xA a.2 (70 + (a.1 - (1 : Int32)).toNatClampNeg) (va_cpy (a.2.2.1 (70 + a.1.toNatClampNeg)) (a.2.2.1 (70 + (a.1 - (1 : Int32)).toNatClampNeg)) 0 0 190)) fun z_11 => some (.inl ((a.1 + (1 : Int32)), z_11)))))
set_option maxHeartbeats 1000000 in
theorem wX1_keeps_B13 {p : Program} {l : Launch} {e : Env} {s : State} {m : MethodId} {args : Array Value} {below : List Frame} {meth : Method} {c : Code} {E : XE} {Q : State → Prop} (k : Nat)  (hC : xC E RX1 cX1_keeps 2 none p s m args meth c) (a : Int32 × XS) (y : (Int32 × XS) ⊕ XS) (hE : fX1_keeps_B13 k  a = some y) (hc : ∀ a : Int32 × XS, y = .inl a → xW p l e rmX1_keeps s m args below meth c E 2 Q 0 0 13 [(0, .ref (E.2.2.1 1)), (1, .int a.1)] [] a.2) (hx1 : ∀ b : XS, y = .inr b → xW p l e rmX1_keeps s m args below meth c E 2 Q 0 0 42 [(0, .ref (E.2.2.1 1))] [] b) : xW p l e rmX1_keeps s m args below meth c E 2 Q 0 0 13 [(0, .ref (E.2.2.1 1)), (1, .int a.1)] [] a.2 := by
  intro H locs cells slots ls hP hS hB hl
  have hx := hC.1
  have hb := hC.2.1
  have hown := hC.2.2.2.2.2.1
  have hts := hC.2.2.2.2.2.2.1
  unfold fX1_keeps_B13 at hE
  refine lv_iload_n hx hb dX1_keeps_13 rfl (lv_at hl 1 rfl) ?_
  refine lv_bipush (v := 30) hx hb dX1_keeps_14 (by decide) ?_
  refine lv_icmp_ge (tgt := 42) hx hb dX1_keeps_16 (by decide) (fun c_8 => ?_) (fun c_8 => ?_)
  · have hE := ip c_8 hE
    exact hx1 _ (Option.some.inj hE).symm H locs cells slots ls hP hS hB (lv_sub hl [0] rfl)
  · have hE := iq c_8 hE
    refine lv_aload_n hx hb dX1_keeps_19 rfl (lv_at hl 0 rfl) ?_
    refine gS_35_1 hC hP dX1_keeps_20 ?_
    refine lv_iload_n hx hb dX1_keeps_23 rfl (lv_at hl 1 rfl) ?_
    obtain ⟨c_9, hE⟩ := og hE
    refine x_aald hC hP xo_15 c_9 dX1_keeps_24 ?_
    refine lv_aload_n hx hb dX1_keeps_25 rfl (lv_at hl 0 rfl) ?_
    refine gS_35_1 hC hP dX1_keeps_26 ?_
    refine lv_iload_n hx hb dX1_keeps_29 rfl (lv_at hl 1 rfl) ?_
    refine lv_iconst (v := 1) hx hb dX1_keeps_30 (by decide) ?_
    refine lv_isub hx hb dX1_keeps_31 ?_
    obtain ⟨c_10, hE⟩ := og hE
    refine x_aald hC hP xo_15 c_10 dX1_keeps_32 ?_
    obtain ⟨z_11, ez_11, hE⟩ := on hE
    refine x_callS (rc1 := _) (rs1 := _) [.ref (E.2.2.1 (70 + a.1.toNatClampNeg)), .ref (E.2.2.1 (70 + (a.1 - (1 : Int32)).toNatClampNeg))] hC hP hS hB hl.1 (wX1_copy (n := 190) (xrow xo_15 c_9) (xrow xo_15 c_10) (by decide) ez_11) (va_cwS 2 hts lkX1_56 rfl rfl rfl cdX1_copy ⟨Nat.le_of_ble_eq_true rfl, Nat.le_of_ble_eq_true rfl⟩) rfl rfl (lv_room (Nat.le_of_ble_eq_true rfl)) ⟨Nat.le_of_eq (Nat.zero_add _), Nat.le_of_eq (Nat.zero_add _)⟩ dX1_keeps_33 (fun H locs cells slots hP hS hB => ?_)
    refine lv_iinc (v := (a.1 + (1 : Int32))) (lv' := [(1, .int (a.1 + (1 : Int32))), (0, .ref (E.2.2.1 1))]) hx hb dX1_keeps_36 hl (k := 1) rfl rfl (Nat.le_of_ble_eq_true rfl) rfl (fun ls hl => ?_)
    refine lv_goto (tgt := 13) hx hb dX1_keeps_39 (by decide) ?_
    exact hc _ (Option.some.inj hE).symm H locs cells slots ls hP hS hB (lv_sub hl [1, 0] rfl)
noncomputable def fX1_keeps (k : Nat) (z : XS)  : Option XS := if (z.2.1 8 (3 : Int32).toNatClampNeg) = (30 : Int32) then ((lpo (fX1_keeps_B13 k ) k ((1 : Int32), z)).bind fun x_12 => nm (xA x_12 8 (upd (x_12.2.1 8) (3 : Int32).toNatClampNeg ((x_12.2.1 8 (3 : Int32).toNatClampNeg) - (1 : Int32)))) fun z_14 => (fX1_keeps_J52 k z_14 )) else ((fX1_keeps_J52 k z ))
set_option maxHeartbeats 1000000 in
theorem wX1_keeps {l : Launch} {E : XE} (k : Nat) (z : XS)  (y : XS) (hE : fX1_keeps k z  = some y) : xM l yX1_keeps (ws_ yX1_keeps cX1_keeps 2 none) rmX1_keeps E z [.ref (E.2.2.1 1)] none y := by
  refine x_met (own := RX1) (by decide) rfl (Nat.le_of_ble_eq_true rfl) (fun p e s m args below meth c hC => ?_)
  intro H locs cells slots ls hP hS hB hl
  have hx := hC.1
  have hb := hC.2.1
  have hown := hC.2.2.2.2.2.1
  have hts := hC.2.2.2.2.2.2.1
  have hl : lv_has ls 2 [(0, .ref (E.2.2.1 1))] := hl
  unfold fX1_keeps at hE
  refine lv_aload_n hx hb dX1_keeps_0 rfl (lv_at hl 0 rfl) ?_
  refine gS_9_1 hC hP dX1_keeps_1 ?_
  refine lv_iconst (v := 3) hx hb dX1_keeps_4 (by decide) ?_
  refine x_iald hC hP (⟨by decide, rfl, rfl⟩ : xint 8 6) (i := (3 : Int32)) (by decide) dX1_keeps_5 ?_
  refine lv_bipush (v := 30) hx hb dX1_keeps_6 (by decide) ?_
  refine lv_icmp_ne (tgt := 52) hx hb dX1_keeps_8 (by decide) (fun c_2 => ?_) (fun c_2 => ?_)
  · have hE := iq c_2 hE
    exact wX1_keeps_J52 k z  hC y hE H locs cells slots ls hP hS hB hl
  · have hE := ip c_2 hE
    refine lv_iconst (v := 1) hx hb dX1_keeps_11 (by decide) ?_
    refine lv_istore_n (lv' := [(1, .int (1 : Int32)), (0, .ref (E.2.2.1 1))]) hx hb dX1_keeps_12 rfl hl (Nat.le_of_ble_eq_true rfl) rfl (fun ls hl => ?_)
    obtain ⟨x_12, h_12, hE⟩ := ob hE
    refine lpo_walk (fun p_12 : Int32 × XS => xW p l e rmX1_keeps s m args below meth c E 2 (xQ E rmX1_keeps below args s none y) 0 0 13 [(0, .ref (E.2.2.1 1)), (1, .int p_12.1)] [] p_12.2) (fun q_12 : XS => xW p l e rmX1_keeps s m args below meth c E 2 (xQ E rmX1_keeps below args s none y) 0 0 42 [(0, .ref (E.2.2.1 1))] [] q_12) (fun a_12 y_12 hB_12 hc_12 hx_12 => wX1_keeps_B13 k  hC a_12 y_12 hB_12 hc_12 hx_12) _ _ x_12 h_12 ?_ H locs cells slots ls hP hS hB (lv_sub hl [1, 0] rfl)
    intro H locs cells slots ls hP hS hB hl
    refine lv_aload_n hx hb dX1_keeps_42 rfl (lv_at hl 0 rfl) ?_
    refine gS_9_1 hC hP dX1_keeps_43 ?_
    refine lv_iconst (v := 3) hx hb dX1_keeps_46 (by decide) ?_
    refine lv_dup2_11 hx hb dX1_keeps_47 rfl rfl ?_
    refine x_iald hC hP (⟨by decide, rfl, rfl⟩ : xint 8 6) (i := (3 : Int32)) (by decide) dX1_keeps_48 ?_
    refine lv_iconst (v := 1) hx hb dX1_keeps_49 (by decide) ?_
    refine lv_isub hx hb dX1_keeps_50 ?_
    obtain ⟨z_14, ez_14, hE⟩ := on hE
    refine x_iast hC hP hS (⟨by decide, rfl, rfl⟩ : xint 8 6) (i := (3 : Int32)) (by decide) ez_14 dX1_keeps_51 (fun H locs hP hS => ?_)
    exact wX1_keeps_J52 k z_14  hC y hE H locs cells slots ls hP hS hB hl
noncomputable def fX0_drawn_9 (z : XS) (x1 : Int32) : Option (Int32 × XS) := if x1 = (0 : Int32) then none else nm ((z.2.1 9 (1 : Int32).toNatClampNeg) - (z.2.1 9 (1 : Int32).toNatClampNeg) / x1 * x1) fun v_3 => nm (xA z 9 (upd (z.2.1 9) (1 : Int32).toNatClampNeg ((((z.2.1 9 (1 : Int32).toNatClampNeg) * (503 : Int32)) + (389 : Int32)) - (((z.2.1 9 (1 : Int32).toNatClampNeg) * (503 : Int32)) + (389 : Int32)) / (30691 : Int32) * (30691 : Int32)))) fun z_5 => some (v_3, z_5)
set_option maxHeartbeats 1000000 in
theorem wX0_drawn_9 {l : Launch} {E : XE} (z : XS) (x1 : Int32) (y : Int32 × XS) (hE : fX0_drawn_9 z x1 = some y) : xM l yX0_drawn (ws_ yX0_drawn cX0_drawn 3 (some .int)) rmX0_drawn_9 E z [.ref (E.2.2.1 9), .int x1] (some (.int y.1)) y.2 := by
  refine x_met (own := RX0) (by decide) rfl (Nat.le_of_ble_eq_true rfl) (fun p e s m args below meth c hC => ?_)
  intro H locs cells slots ls hP hS hB hl
  have hx := hC.1
  have hb := hC.2.1
  have hown := hC.2.2.2.2.2.1
  have hts := hC.2.2.2.2.2.2.1
  have hl : lv_has ls 3 [(0, .ref (E.2.2.1 9)), (1, .int x1)] := hl
  unfold fX0_drawn_9 at hE
  refine lv_aload_n hx hb dX0_drawn_0 rfl (lv_at hl 0 rfl) ?_
  refine lv_iconst (v := 1) hx hb dX0_drawn_1 (by decide) ?_
  refine x_iald hC hP (⟨by decide, rfl, rfl⟩ : xint 9 190) (i := (1 : Int32)) (by decide) dX0_drawn_2 ?_
  refine lv_iload_n hx hb dX0_drawn_3 rfl (lv_at hl 1 rfl) ?_
  obtain ⟨c_2, hE⟩ := og hE
  refine lv_irem hx hb dX0_drawn_4 c_2 ?_
  refine nm_i hE (fun v_3 ev_3 hE => ?_)
  refine lv_istore_n (lv' := [(2, .int v_3), (0, .ref (E.2.2.1 9)), (1, .int x1)]) hx hb dX0_drawn_5 rfl hl (Nat.le_of_ble_eq_true rfl) rfl (fun ls hl => ?_)
  refine lv_aload_n hx hb dX0_drawn_6 rfl (lv_at hl 1 rfl) ?_
  refine lv_iconst (v := 1) hx hb dX0_drawn_7 (by decide) ?_
  refine lv_aload_n hx hb dX0_drawn_8 rfl (lv_at hl 1 rfl) ?_
  refine lv_iconst (v := 1) hx hb dX0_drawn_9 (by decide) ?_
  refine x_iald hC hP (⟨by decide, rfl, rfl⟩ : xint 9 190) (i := (1 : Int32)) (by decide) dX0_drawn_10 ?_
  refine lv_sipush (v := 503) hx hb dX0_drawn_11 (by decide) ?_
  refine lv_imul hx hb dX0_drawn_14 ?_
  refine lv_sipush (v := 389) hx hb dX0_drawn_15 (by decide) ?_
  refine lv_iadd hx hb dX0_drawn_18 ?_
  refine lv_sipush (v := 30691) hx hb dX0_drawn_19 (by decide) ?_
  refine lv_irem hx hb dX0_drawn_22 (by decide) ?_
  obtain ⟨z_5, ez_5, hE⟩ := on hE
  refine x_iast hC hP hS (⟨by decide, rfl, rfl⟩ : xint 9 190) (i := (1 : Int32)) (by decide) ez_5 dX0_drawn_23 (fun H locs hP hS => ?_)
  refine lv_iload_n hx hb dX0_drawn_24 rfl (lv_at hl 0 rfl) ?_
  obtain rfl := Option.some.inj hE
  exact x_iret hC hP hS hB dX0_drawn_25
noncomputable def fX0_namesOf_9 (z : XS) (x2 : Int32) : Option XS := nm (xA z 4 (upd (z.2.1 4) (0 : Int32).toNatClampNeg (z.2.1 9 (0 : Int32).toNatClampNeg))) fun z_2 => nm (xA z_2 4 (upd (z_2.2.1 4) (1 : Int32).toNatClampNeg x2)) fun z_3 => if ib ((2 : Int32) + x2) 190 then none else (nm (xA z_3 4 (upd (z_3.2.1 4) (2 : Int32).toNatClampNeg (z_3.2.1 9 ((2 : Int32) + x2).toNatClampNeg))) fun z_5 => if ib ((32 : Int32) + x2) 190 then none else (nm (xA z_5 4 (upd (z_5.2.1 4) (3 : Int32).toNatClampNeg (z_5.2.1 9 ((32 : Int32) + x2).toNatClampNeg))) fun z_7 => if ((2 : Int32) < 0 ∨ (8 : Int32) < 0 ∨ (30 : Int32) < 0 ∨ 190 < (2 : Int32).toNatClampNeg + (30 : Int32).toNatClampNeg ∨ 38 < (8 : Int32).toNatClampNeg + (30 : Int32).toNatClampNeg) then none else (nm (xA z_7 4 (va_cpy (z_7.2.1 9) (z_7.2.1 4) (2 : Int32).toNatClampNeg (8 : Int32).toNatClampNeg (30 : Int32).toNatClampNeg)) fun z_8 => some z_8)))
set_option maxHeartbeats 1000000 in
theorem wX0_namesOf_9 {l : Launch} {E : XE} (z : XS) (x2 : Int32) (y : XS) (hE : fX0_namesOf_9 z x2 = some y) : xM l yX0_namesOf (ws_ yX0_namesOf cX0_namesOf 3 none) rmX0_namesOf_9 E z [.ref (E.2.2.1 0), .ref (E.2.2.1 9), .int x2] none y := by
  refine x_met (own := RX0) (by decide) rfl (Nat.le_of_ble_eq_true rfl) (fun p e s m args below meth c hC => ?_)
  intro H locs cells slots ls hP hS hB hl
  have hx := hC.1
  have hb := hC.2.1
  have hown := hC.2.2.2.2.2.1
  have hts := hC.2.2.2.2.2.2.1
  have hl : lv_has ls 3 [(0, .ref (E.2.2.1 0)), (1, .ref (E.2.2.1 9)), (2, .int x2)] := hl
  unfold fX0_namesOf_9 at hE
  refine lv_aload_n hx hb dX0_namesOf_0 rfl (lv_at hl 0 rfl) ?_
  refine gX_39 hC hP dX0_namesOf_1 ?_
  refine lv_iconst (v := 0) hx hb dX0_namesOf_4 (by decide) ?_
  refine lv_aload_n hx hb dX0_namesOf_5 rfl (lv_at hl 1 rfl) ?_
  refine lv_iconst (v := 0) hx hb dX0_namesOf_6 (by decide) ?_
  refine x_iald hC hP (⟨by decide, rfl, rfl⟩ : xint 9 190) (i := (0 : Int32)) (by decide) dX0_namesOf_7 ?_
  obtain ⟨z_2, ez_2, hE⟩ := on hE
  refine x_iast hC hP hS (⟨by decide, rfl, rfl⟩ : xint 4 38) (i := (0 : Int32)) (by decide) ez_2 dX0_namesOf_8 (fun H locs hP hS => ?_)
  refine lv_aload_n hx hb dX0_namesOf_9 rfl (lv_at hl 0 rfl) ?_
  refine gX_39 hC hP dX0_namesOf_10 ?_
  refine lv_iconst (v := 1) hx hb dX0_namesOf_13 (by decide) ?_
  refine lv_iload_n hx hb dX0_namesOf_14 rfl (lv_at hl 2 rfl) ?_
  obtain ⟨z_3, ez_3, hE⟩ := on hE
  refine x_iast hC hP hS (⟨by decide, rfl, rfl⟩ : xint 4 38) (i := (1 : Int32)) (by decide) ez_3 dX0_namesOf_15 (fun H locs hP hS => ?_)
  refine lv_aload_n hx hb dX0_namesOf_16 rfl (lv_at hl 0 rfl) ?_
  refine gX_39 hC hP dX0_namesOf_17 ?_
  refine lv_iconst (v := 2) hx hb dX0_namesOf_20 (by decide) ?_
  refine lv_aload_n hx hb dX0_namesOf_21 rfl (lv_at hl 1 rfl) ?_
  refine lv_iconst (v := 2) hx hb dX0_namesOf_22 (by decide) ?_
  refine lv_iload_n hx hb dX0_namesOf_23 rfl (lv_at hl 2 rfl) ?_
  refine lv_iadd hx hb dX0_namesOf_24 ?_
  obtain ⟨c_4, hE⟩ := og hE
  refine x_iald hC hP (⟨by decide, rfl, rfl⟩ : xint 9 190) c_4 dX0_namesOf_25 ?_
  obtain ⟨z_5, ez_5, hE⟩ := on hE
  refine x_iast hC hP hS (⟨by decide, rfl, rfl⟩ : xint 4 38) (i := (2 : Int32)) (by decide) ez_5 dX0_namesOf_26 (fun H locs hP hS => ?_)
  refine lv_aload_n hx hb dX0_namesOf_27 rfl (lv_at hl 0 rfl) ?_
  refine gX_39 hC hP dX0_namesOf_28 ?_
  refine lv_iconst (v := 3) hx hb dX0_namesOf_31 (by decide) ?_
  refine lv_aload_n hx hb dX0_namesOf_32 rfl (lv_at hl 1 rfl) ?_
  refine lv_bipush (v := 32) hx hb dX0_namesOf_33 (by decide) ?_
  refine lv_iload_n hx hb dX0_namesOf_35 rfl (lv_at hl 2 rfl) ?_
  refine lv_iadd hx hb dX0_namesOf_36 ?_
  obtain ⟨c_6, hE⟩ := og hE
  refine x_iald hC hP (⟨by decide, rfl, rfl⟩ : xint 9 190) c_6 dX0_namesOf_37 ?_
  obtain ⟨z_7, ez_7, hE⟩ := on hE
  refine x_iast hC hP hS (⟨by decide, rfl, rfl⟩ : xint 4 38) (i := (3 : Int32)) (by decide) ez_7 dX0_namesOf_38 (fun H locs hP hS => ?_)
  refine lv_aload_n hx hb dX0_namesOf_39 rfl (lv_at hl 1 rfl) ?_
  refine lv_iconst (v := 2) hx hb dX0_namesOf_40 (by decide) ?_
  refine lv_aload_n hx hb dX0_namesOf_41 rfl (lv_at hl 0 rfl) ?_
  refine gX_39 hC hP dX0_namesOf_42 ?_
  refine lv_bipush (v := 8) hx hb dX0_namesOf_45 (by decide) ?_
  refine lv_bipush (v := 30) hx hb dX0_namesOf_47 (by decide) ?_
  obtain ⟨c_8, hE⟩ := og hE
  obtain ⟨z_8, ez_8, hE⟩ := on hE
  refine x_copy hC hP hS hl.1 (⟨by decide, rfl, rfl⟩ : xint 9 190) (⟨by decide, rfl, rfl⟩ : xint 4 38) q899 (fun h => c_8 (Or.inl h)) (fun h => c_8 (Or.inr (Or.inl h))) (fun h => c_8 (Or.inr (Or.inr (Or.inl h)))) (Nat.not_lt.mp fun h => c_8 (Or.inr (Or.inr (Or.inr (Or.inl h))))) (Nat.not_lt.mp fun h => c_8 (Or.inr (Or.inr (Or.inr (Or.inr h))))) ez_8 (Nat.le_of_ble_eq_true rfl) (by decide) dX0_namesOf_49 (fun H locs hP hS => ?_)
  obtain rfl := Option.some.inj hE
  exact x_vret hC hP hS hB dX0_namesOf_52
noncomputable def fX0_catchesBy_9 (V : XV) (z : XS) (x1 : Nat) (x3 : Int32) (x4 : Int32) (x5 : Int32) : Option (Int32 × XS) := (fX0_namesOf_9 z x4).bind fun r_1 => nm (xA r_1 4 (upd (r_1.2.1 4) (4 : Int32).toNatClampNeg x5)) fun z_2 => if ib x3 7 then none else (nm (xA z_2 4 (upd (z_2.2.1 4) (5 : Int32).toNatClampNeg (z_2.2.1 10 x3.toNatClampNeg))) fun z_4 => if ib x3 7 then none else (nm (xA z_4 4 (upd (z_4.2.1 4) (6 : Int32).toNatClampNeg (z_4.2.1 11 x3.toNatClampNeg))) fun z_6 => nm (xA z_6 4 (upd (z_6.2.1 4) (7 : Int32).toNatClampNeg x3)) fun z_7 => (fX0_law V z_7 x1 (0 : Int32) (10 : Int32)).bind fun r_8 => some (r_8, z_7)))
set_option maxHeartbeats 1000000 in
theorem wX0_catchesBy_9 {l : Launch} {E : XE} (z : XS) (x1 : Nat) (x3 : Int32) (x4 : Int32) (x5 : Int32) (y : Int32 × XS) (hE : fX0_catchesBy_9 E.2.2.2.2.2 z x1 x3 x4 x5 = some y) : xM l yX0_catchesBy (ws_ yX0_catchesBy cX0_catchesBy 6 (some .int)) rmX0_catchesBy_9 E z [.ref (E.2.2.1 0), .ref x1, .ref (E.2.2.1 9), .int x3, .int x4, .int x5] (some (.int y.1)) y.2 := by
  refine x_met (own := RX0) (by decide) rfl (Nat.le_of_ble_eq_true rfl) (fun p e s m args below meth c hC => ?_)
  intro H locs cells slots ls hP hS hB hl
  have hx := hC.1
  have hb := hC.2.1
  have hown := hC.2.2.2.2.2.1
  have hts := hC.2.2.2.2.2.2.1
  have hl : lv_has ls 6 [(0, .ref (E.2.2.1 0)), (1, .ref x1), (2, .ref (E.2.2.1 9)), (3, .int x3), (4, .int x4), (5, .int x5)] := hl
  unfold fX0_catchesBy_9 at hE
  refine lv_aload_n hx hb dX0_catchesBy_0 rfl (lv_at hl 0 rfl) ?_
  refine lv_aload_n hx hb dX0_catchesBy_1 rfl (lv_at hl 2 rfl) ?_
  refine lv_iload hx hb dX0_catchesBy_2 (lv_at hl 4 rfl) ?_
  obtain ⟨r_1, h_1, hE⟩ := ob hE
  refine x_callV (rc1 := _) (rs1 := _) [.ref (E.2.2.1 9), .int x4] (E.2.2.1 0) hC hP hS hB hl.1 (wX0_namesOf_9 z x4 r_1 h_1) (xC.c0 hC) (xw_get E _ (k := 0) (by decide)) (cwV 2 hts lkX0_137 rfl rfl rfl cdX0_namesOf ⟨Nat.le_of_ble_eq_true rfl, Nat.le_of_ble_eq_true rfl⟩) rfl rfl (lv_room (Nat.le_of_ble_eq_true rfl)) ⟨Nat.le_of_eq (Nat.zero_add _), Nat.le_of_eq (Nat.zero_add _)⟩ dX0_catchesBy_4 (fun H locs cells slots hP hS hB => ?_)
  show W p l e _ s m args below meth c H locs cells slots _ (F0 m _ ls ([]))
  refine lv_aload_n hx hb dX0_catchesBy_7 rfl (lv_at hl 0 rfl) ?_
  refine gX_39 hC hP dX0_catchesBy_8 ?_
  refine lv_iconst (v := 4) hx hb dX0_catchesBy_11 (by decide) ?_
  refine lv_iload hx hb dX0_catchesBy_12 (lv_at hl 5 rfl) ?_
  obtain ⟨z_2, ez_2, hE⟩ := on hE
  refine x_iast hC hP hS (⟨by decide, rfl, rfl⟩ : xint 4 38) (i := (4 : Int32)) (by decide) ez_2 dX0_catchesBy_14 (fun H locs hP hS => ?_)
  refine lv_aload_n hx hb dX0_catchesBy_15 rfl (lv_at hl 0 rfl) ?_
  refine gX_39 hC hP dX0_catchesBy_16 ?_
  refine lv_iconst (v := 5) hx hb dX0_catchesBy_19 (by decide) ?_
  refine lv_aload_n hx hb dX0_catchesBy_20 rfl (lv_at hl 0 rfl) ?_
  refine gX_21 hC hP dX0_catchesBy_21 ?_
  refine gN_76_1 hC hP dX0_catchesBy_24 ?_
  refine lv_iload_n hx hb dX0_catchesBy_27 rfl (lv_at hl 3 rfl) ?_
  obtain ⟨c_3, hE⟩ := og hE
  refine x_iald hC hP (⟨by decide, rfl, rfl⟩ : xint 10 7) c_3 dX0_catchesBy_28 ?_
  obtain ⟨z_4, ez_4, hE⟩ := on hE
  refine x_iast hC hP hS (⟨by decide, rfl, rfl⟩ : xint 4 38) (i := (5 : Int32)) (by decide) ez_4 dX0_catchesBy_29 (fun H locs hP hS => ?_)
  refine lv_aload_n hx hb dX0_catchesBy_30 rfl (lv_at hl 0 rfl) ?_
  refine gX_39 hC hP dX0_catchesBy_31 ?_
  refine lv_bipush (v := 6) hx hb dX0_catchesBy_34 (by decide) ?_
  refine lv_aload_n hx hb dX0_catchesBy_36 rfl (lv_at hl 0 rfl) ?_
  refine gX_21 hC hP dX0_catchesBy_37 ?_
  refine gN_79_1 hC hP dX0_catchesBy_40 ?_
  refine lv_iload_n hx hb dX0_catchesBy_43 rfl (lv_at hl 3 rfl) ?_
  obtain ⟨c_5, hE⟩ := og hE
  refine x_iald hC hP (⟨by decide, rfl, rfl⟩ : xint 11 7) c_5 dX0_catchesBy_44 ?_
  obtain ⟨z_6, ez_6, hE⟩ := on hE
  refine x_iast hC hP hS (⟨by decide, rfl, rfl⟩ : xint 4 38) (i := (6 : Int32)) (by decide) ez_6 dX0_catchesBy_45 (fun H locs hP hS => ?_)
  refine lv_aload_n hx hb dX0_catchesBy_46 rfl (lv_at hl 0 rfl) ?_
  refine gX_39 hC hP dX0_catchesBy_47 ?_
  refine lv_bipush (v := 7) hx hb dX0_catchesBy_50 (by decide) ?_
  refine lv_iload_n hx hb dX0_catchesBy_52 rfl (lv_at hl 3 rfl) ?_
  obtain ⟨z_7, ez_7, hE⟩ := on hE
  refine x_iast hC hP hS (⟨by decide, rfl, rfl⟩ : xint 4 38) (i := (7 : Int32)) (by decide) ez_7 dX0_catchesBy_53 (fun H locs hP hS => ?_)
  refine lv_aload_n hx hb dX0_catchesBy_54 rfl (lv_at hl 0 rfl) ?_
  refine lv_aload_n hx hb dX0_catchesBy_55 rfl (lv_at hl 1 rfl) ?_
  refine lv_iconst (v := 0) hx hb dX0_catchesBy_56 (by decide) ?_
  refine lv_bipush (v := 10) hx hb dX0_catchesBy_57 (by decide) ?_
  obtain ⟨r_8, h_8, hE⟩ := ob hE
  refine x_callV (rc1 := _) (rs1 := _) [.ref x1, .int (0 : Int32), .int (10 : Int32)] (E.2.2.1 0) hC hP hS hB hl.1 (wX0_law z_7 x1 (0 : Int32) (10 : Int32) r_8 h_8) (xC.c0 hC) (xw_get E _ (k := 0) (by decide)) (cwV 3 hts lkX0_141 rfl rfl rfl cdX0_law ⟨Nat.le_of_ble_eq_true rfl, Nat.le_of_ble_eq_true rfl⟩) rfl rfl (lv_room (Nat.le_of_ble_eq_true rfl)) ⟨Nat.le_of_eq (Nat.zero_add _), Nat.le_of_eq (Nat.zero_add _)⟩ dX0_catchesBy_59 (fun H locs cells slots hP hS hB => ?_)
  show W p l e _ s m args below meth c H locs cells slots _ (F0 m _ ls (.int r_8 :: []))
  obtain rfl := Option.some.inj hE
  exact x_iret hC hP hS hB dX0_catchesBy_62
noncomputable def fX0_writes_9_J28 (z : XS) (x1 : Int32) (x2 : Int32) (x3 : Int32) : Option (XS) := nm (upd (fun _ => 0) (0 : Int32).toNatClampNeg (z.2.1 9 (0 : Int32).toNatClampNeg)) fun f_5 => nm (upd f_5 (1 : Int32).toNatClampNeg x1) fun f_6 => nm (upd f_6 (2 : Int32).toNatClampNeg x2) fun f_7 => nm (upd f_7 (3 : Int32).toNatClampNeg x3) fun f_8 => if ((0 : Int32) < 0 ∨ ((70 : Int32) + ((4 : Int32) * (z.2.1 9 (69 : Int32).toNatClampNeg))) < 0 ∨ (4 : Int32) < 0 ∨ 4 < (0 : Int32).toNatClampNeg + (4 : Int32).toNatClampNeg ∨ 190 < ((70 : Int32) + ((4 : Int32) * (z.2.1 9 (69 : Int32).toNatClampNeg))).toNatClampNeg + (4 : Int32).toNatClampNeg) then none else (nm (xA z 9 (va_cpy f_8 (z.2.1 9) (0 : Int32).toNatClampNeg ((70 : Int32) + ((4 : Int32) * (z.2.1 9 (69 : Int32).toNatClampNeg))).toNatClampNeg (4 : Int32).toNatClampNeg)) fun z_10 => nm (xA z_10 9 (upd (z_10.2.1 9) (69 : Int32).toNatClampNeg ((z_10.2.1 9 (69 : Int32).toNatClampNeg) + (1 : Int32)))) fun z_12 => some z_12)
set_option maxHeartbeats 1000000 in
theorem wX0_writes_9_J28 {p : Program} {l : Launch} {e : Env} {s : State} {m : MethodId} {args : Array Value} {below : List Frame} {meth : Method} {c : Code} {E : XE} (z : XS) (x1 : Int32) (x2 : Int32) (x3 : Int32) (hC : xC E RX0 cX0_writes 5 none p s m args meth c) (y : XS) (hE : fX0_writes_9_J28 z x1 x2 x3 = some y) : xW p l e rmX0_writes_9 s m args below meth c E 5 (xQ E rmX0_writes_9 below args s none y) 1 4 28 [(0, .ref (E.2.2.1 9)), (1, .int x1), (2, .int x2), (3, .int x3)] [] z := by
  intro H locs cells slots ls hP hS hB hl
  have hx := hC.1
  have hb := hC.2.1
  have hown := hC.2.2.2.2.2.1
  have hts := hC.2.2.2.2.2.2.1
  unfold fX0_writes_9_J28 at hE
  refine lv_iconst (v := 4) hx hb dX0_writes_28 (by decide) ?_
  refine t_new (rc1 := 0) (rs1 := 0) (n := 4) hC hP hS hB (by decide) rfl (by decide) ⟨Nat.le_of_ble_eq_true rfl, Nat.le_of_ble_eq_true rfl⟩ dX0_writes_29 (fun q_3 H cells slots hP hS hB hT => ?_)
  refine lv_dup hx hb dX0_writes_31 rfl ?_
  refine lv_iconst (v := 0) hx hb dX0_writes_32 (by decide) ?_
  refine lv_aload_n hx hb dX0_writes_33 rfl (lv_at hl 0 rfl) ?_
  refine lv_iconst (v := 0) hx hb dX0_writes_34 (by decide) ?_
  refine x_iald hC hP (⟨by decide, rfl, rfl⟩ : xint 9 190) (i := (0 : Int32)) (by decide) dX0_writes_35 ?_
  obtain ⟨f_5, ef_5, hE⟩ := on hE
  refine t_ast hC hP hS hT (i := (0 : Int32)) (by decide) ef_5 dX0_writes_36 (fun H locs hP hS hT => ?_)
  refine lv_dup hx hb dX0_writes_37 rfl ?_
  refine lv_iconst (v := 1) hx hb dX0_writes_38 (by decide) ?_
  refine lv_iload_n hx hb dX0_writes_39 rfl (lv_at hl 1 rfl) ?_
  obtain ⟨f_6, ef_6, hE⟩ := on hE
  refine t_ast hC hP hS hT (i := (1 : Int32)) (by decide) ef_6 dX0_writes_40 (fun H locs hP hS hT => ?_)
  refine lv_dup hx hb dX0_writes_41 rfl ?_
  refine lv_iconst (v := 2) hx hb dX0_writes_42 (by decide) ?_
  refine lv_iload_n hx hb dX0_writes_43 rfl (lv_at hl 2 rfl) ?_
  obtain ⟨f_7, ef_7, hE⟩ := on hE
  refine t_ast hC hP hS hT (i := (2 : Int32)) (by decide) ef_7 dX0_writes_44 (fun H locs hP hS hT => ?_)
  refine lv_dup hx hb dX0_writes_45 rfl ?_
  refine lv_iconst (v := 3) hx hb dX0_writes_46 (by decide) ?_
  refine lv_iload_n hx hb dX0_writes_47 rfl (lv_at hl 3 rfl) ?_
  obtain ⟨f_8, ef_8, hE⟩ := on hE
  refine t_ast hC hP hS hT (i := (3 : Int32)) (by decide) ef_8 dX0_writes_48 (fun H locs hP hS hT => ?_)
  refine lv_astore (lv' := [(4, .ref q_3), (0, .ref (E.2.2.1 9)), (1, .int x1), (2, .int x2), (3, .int x3)]) hx hb dX0_writes_49 hl (Nat.le_of_ble_eq_true rfl) rfl (fun ls hl => ?_)
  refine lv_aload hx hb dX0_writes_51 (lv_at hl 0 rfl) ?_
  refine lv_iconst (v := 0) hx hb dX0_writes_53 (by decide) ?_
  refine lv_aload_n hx hb dX0_writes_54 rfl (lv_at hl 1 rfl) ?_
  refine lv_bipush (v := 70) hx hb dX0_writes_55 (by decide) ?_
  refine lv_iconst (v := 4) hx hb dX0_writes_57 (by decide) ?_
  refine lv_aload_n hx hb dX0_writes_58 rfl (lv_at hl 1 rfl) ?_
  refine lv_bipush (v := 69) hx hb dX0_writes_59 (by decide) ?_
  refine x_iald hC hP (⟨by decide, rfl, rfl⟩ : xint 9 190) (i := (69 : Int32)) (by decide) dX0_writes_61 ?_
  refine lv_imul hx hb dX0_writes_62 ?_
  refine lv_iadd hx hb dX0_writes_63 ?_
  refine lv_iconst (v := 4) hx hb dX0_writes_64 (by decide) ?_
  obtain ⟨c_10, hE⟩ := og hE
  obtain ⟨z_10, ez_10, hE⟩ := on hE
  refine t_copy hC hP hS hT hl.1 (⟨by decide, rfl, rfl⟩ : xint 9 190) q899 (fun h => c_10 (Or.inl h)) (fun h => c_10 (Or.inr (Or.inl h))) (fun h => c_10 (Or.inr (Or.inr (Or.inl h)))) (Nat.not_lt.mp fun h => c_10 (Or.inr (Or.inr (Or.inr (Or.inl h))))) (Nat.not_lt.mp fun h => c_10 (Or.inr (Or.inr (Or.inr (Or.inr h))))) ez_10 (Nat.le_of_ble_eq_true rfl) (by decide) dX0_writes_65 (fun H locs hP hS => ?_)
  refine lv_aload_n hx hb dX0_writes_68 rfl (lv_at hl 1 rfl) ?_
  refine lv_bipush (v := 69) hx hb dX0_writes_69 (by decide) ?_
  refine lv_dup2_11 hx hb dX0_writes_71 rfl rfl ?_
  refine x_iald hC hP (⟨by decide, rfl, rfl⟩ : xint 9 190) (i := (69 : Int32)) (by decide) dX0_writes_72 ?_
  refine lv_iconst (v := 1) hx hb dX0_writes_73 (by decide) ?_
  refine lv_iadd hx hb dX0_writes_74 ?_
  obtain ⟨z_12, ez_12, hE⟩ := on hE
  refine x_iast hC hP hS (⟨by decide, rfl, rfl⟩ : xint 9 190) (i := (69 : Int32)) (by decide) ez_12 dX0_writes_75 (fun H locs hP hS => ?_)
  obtain rfl := Option.some.inj hE
  exact x_vret hC hP hS hB dX0_writes_76
noncomputable def fX0_writes_9 (z : XS) (x1 : Int32) (x2 : Int32) (x3 : Int32) : Option XS := if (z.2.1 9 (69 : Int32).toNatClampNeg) = (30 : Int32) then (if ((74 : Int32) < 0 ∨ (70 : Int32) < 0 ∨ (116 : Int32) < 0 ∨ 190 < (74 : Int32).toNatClampNeg + (116 : Int32).toNatClampNeg ∨ 190 < (70 : Int32).toNatClampNeg + (116 : Int32).toNatClampNeg) then none else (nm (xA z 9 (va_cpy (z.2.1 9) (z.2.1 9) (74 : Int32).toNatClampNeg (70 : Int32).toNatClampNeg (116 : Int32).toNatClampNeg)) fun z_13 => nm (xA z_13 9 (upd (z_13.2.1 9) (69 : Int32).toNatClampNeg ((z_13.2.1 9 (69 : Int32).toNatClampNeg) - (1 : Int32)))) fun z_15 => (fX0_writes_9_J28 z_15 x1 x2 x3))) else ((fX0_writes_9_J28 z x1 x2 x3))
set_option maxHeartbeats 1000000 in
theorem wX0_writes_9 {l : Launch} {E : XE} (z : XS) (x1 : Int32) (x2 : Int32) (x3 : Int32) (y : XS) (hE : fX0_writes_9 z x1 x2 x3 = some y) : xM l yX0_writes (ws_ yX0_writes cX0_writes 5 none) rmX0_writes_9 E z [.ref (E.2.2.1 9), .int x1, .int x2, .int x3] none y := by
  refine x_met (own := RX0) (by decide) rfl (Nat.le_of_ble_eq_true rfl) (fun p e s m args below meth c hC => ?_)
  intro H locs cells slots ls hP hS hB hl
  have hx := hC.1
  have hb := hC.2.1
  have hown := hC.2.2.2.2.2.1
  have hts := hC.2.2.2.2.2.2.1
  have hl : lv_has ls 5 [(0, .ref (E.2.2.1 9)), (1, .int x1), (2, .int x2), (3, .int x3)] := hl
  unfold fX0_writes_9 at hE
  refine lv_aload_n hx hb dX0_writes_0 rfl (lv_at hl 0 rfl) ?_
  refine lv_bipush (v := 69) hx hb dX0_writes_1 (by decide) ?_
  refine x_iald hC hP (⟨by decide, rfl, rfl⟩ : xint 9 190) (i := (69 : Int32)) (by decide) dX0_writes_3 ?_
  refine lv_bipush (v := 30) hx hb dX0_writes_4 (by decide) ?_
  refine lv_icmp_ne (tgt := 28) hx hb dX0_writes_6 (by decide) (fun c_2 => ?_) (fun c_2 => ?_)
  · have hE := iq c_2 hE
    exact wX0_writes_9_J28 z x1 x2 x3 hC y hE H locs cells slots ls hP hS hB hl
  · have hE := ip c_2 hE
    refine lv_aload_n hx hb dX0_writes_9 rfl (lv_at hl 0 rfl) ?_
    refine lv_bipush (v := 74) hx hb dX0_writes_10 (by decide) ?_
    refine lv_aload_n hx hb dX0_writes_12 rfl (lv_at hl 0 rfl) ?_
    refine lv_bipush (v := 70) hx hb dX0_writes_13 (by decide) ?_
    refine lv_bipush (v := 116) hx hb dX0_writes_15 (by decide) ?_
    obtain ⟨c_13, hE⟩ := og hE
    obtain ⟨z_13, ez_13, hE⟩ := on hE
    refine x_copy hC hP hS hl.1 (⟨by decide, rfl, rfl⟩ : xint 9 190) (⟨by decide, rfl, rfl⟩ : xint 9 190) q899 (fun h => c_13 (Or.inl h)) (fun h => c_13 (Or.inr (Or.inl h))) (fun h => c_13 (Or.inr (Or.inr (Or.inl h)))) (Nat.not_lt.mp fun h => c_13 (Or.inr (Or.inr (Or.inr (Or.inl h))))) (Nat.not_lt.mp fun h => c_13 (Or.inr (Or.inr (Or.inr (Or.inr h))))) ez_13 (Nat.le_of_ble_eq_true rfl) (by decide) dX0_writes_17 (fun H locs hP hS => ?_)
    refine lv_aload_n hx hb dX0_writes_20 rfl (lv_at hl 0 rfl) ?_
    refine lv_bipush (v := 69) hx hb dX0_writes_21 (by decide) ?_
    refine lv_dup2_11 hx hb dX0_writes_23 rfl rfl ?_
    refine x_iald hC hP (⟨by decide, rfl, rfl⟩ : xint 9 190) (i := (69 : Int32)) (by decide) dX0_writes_24 ?_
    refine lv_iconst (v := 1) hx hb dX0_writes_25 (by decide) ?_
    refine lv_isub hx hb dX0_writes_26 ?_
    obtain ⟨z_15, ez_15, hE⟩ := on hE
    refine x_iast hC hP hS (⟨by decide, rfl, rfl⟩ : xint 9 190) (i := (69 : Int32)) (by decide) ez_15 dX0_writes_27 (fun H locs hP hS => ?_)
    exact wX0_writes_9_J28 z_15 x1 x2 x3 hC y hE H locs cells slots ls hP hS hB hl
noncomputable def fX0_runs_9_J91 (k : Nat) (V : XV) (z : XS) (v2 : Int32) (v3 : Int32) (x4 : Int32) (x6 : Int32) (t0 : Int32) : Option ((Int32 × Int32 × Int32 × XS) ⊕ (Int32 × XS)) := some (.inl (x4, t0, (x6 + (1 : Int32)), z))
set_option maxHeartbeats 1000000 in
theorem wX0_runs_9_J91 {p : Program} {l : Launch} {e : Env} {s : State} {m : MethodId} {args : Array Value} {below : List Frame} {meth : Method} {c : Code} {E : XE} {Q : State → Prop} (k : Nat) (z : XS) (v2 : Int32) (v3 : Int32) (x4 : Int32) (x6 : Int32) (t0 : Int32) (hC : xC E RX0 cX0_runs 8 (some .int) p s m args meth c) (y : (Int32 × Int32 × Int32 × XS) ⊕ (Int32 × XS)) (hE : fX0_runs_9_J91 k E.2.2.2.2.2 z v2 v3 x4 x6 t0 = some y) (hc : ∀ a : Int32 × Int32 × Int32 × XS, y = .inl a → xW p l e rmX0_runs_9 s m args below meth c E 8 Q 1 4 9 [(0, .ref (E.2.2.1 0)), (1, .ref (E.2.2.1 9)), (2, .int v2), (3, .int v3), (4, .int a.1), (5, .int a.2.1), (6, .int a.2.2.1)] [] a.2.2.2) (hx1 : ∀ b : Int32 × XS, y = .inr b → xW p l e rmX0_runs_9 s m args below meth c E 8 Q 1 4 99 [(1, .ref (E.2.2.1 9)), (2, .int v2), (3, .int v3), (4, .int b.1)] [] b.2) : xW p l e rmX0_runs_9 s m args below meth c E 8 Q 1 4 91 [(0, .ref (E.2.2.1 0)), (1, .ref (E.2.2.1 9)), (2, .int v2), (3, .int v3), (4, .int x4), (6, .int x6)] [.int t0] z := by
  intro H locs cells slots ls hP hS hB hl
  have hx := hC.1
  have hb := hC.2.1
  have hown := hC.2.2.2.2.2.1
  have hts := hC.2.2.2.2.2.2.1
  unfold fX0_runs_9_J91 at hE
  refine lv_istore (lv' := [(5, .int t0), (0, .ref (E.2.2.1 0)), (1, .ref (E.2.2.1 9)), (2, .int v2), (3, .int v3), (4, .int x4), (6, .int x6)]) hx hb dX0_runs_91 hl (Nat.le_of_ble_eq_true rfl) rfl (fun ls hl => ?_)
  refine lv_iinc (v := (x6 + (1 : Int32))) (lv' := [(6, .int (x6 + (1 : Int32))), (5, .int t0), (0, .ref (E.2.2.1 0)), (1, .ref (E.2.2.1 9)), (2, .int v2), (3, .int v3), (4, .int x4)]) hx hb dX0_runs_93 hl (k := 6) rfl rfl (Nat.le_of_ble_eq_true rfl) rfl (fun ls hl => ?_)
  refine lv_goto (tgt := 9) hx hb dX0_runs_96 (by decide) ?_
  exact hc _ (Option.some.inj hE).symm H locs cells slots ls hP hS hB (lv_sub hl [2, 3, 4, 5, 6, 1, 0] rfl)
noncomputable def fX0_runs_9_J45 (k : Nat) (V : XV) (z : XS) (v2 : Int32) (v3 : Int32) (x4 : Int32) (x6 : Int32) (x7 : Int32) (t0 : Int32) : Option ((Int32 × Int32 × Int32 × XS) ⊕ (Int32 × XS)) := if ib ((2 : Int32) + x7) 190 then none else (if (z.2.1 9 ((2 : Int32) + x7).toNatClampNeg) = (1 : Int32) then ((fX0_drawn_9 z (10 : Int32)).bind fun r_8 => (fX0_rules V r_8.2 ).bind fun r_9 => (fX0_catchesBy_9 V r_8.2 r_9 v2 x7 (x4 + (1 : Int32))).bind fun r_10 => if r_8.1 < r_10.1 then ((fX0_runs_9_J91 k V r_10.2 v2 v3 (x4 + (1 : Int32)) x6 (0 : Int32))) else ((fX0_runs_9_J91 k V r_10.2 v2 v3 (x4 + (1 : Int32)) x6 (1 : Int32)))) else (some (.inl (x4, t0, (x6 + (1 : Int32)), z))))
set_option maxHeartbeats 1000000 in
theorem wX0_runs_9_J45 {p : Program} {l : Launch} {e : Env} {s : State} {m : MethodId} {args : Array Value} {below : List Frame} {meth : Method} {c : Code} {E : XE} {Q : State → Prop} (k : Nat) (z : XS) (v2 : Int32) (v3 : Int32) (x4 : Int32) (x6 : Int32) (x7 : Int32) (t0 : Int32) (hC : xC E RX0 cX0_runs 8 (some .int) p s m args meth c) (y : (Int32 × Int32 × Int32 × XS) ⊕ (Int32 × XS)) (hE : fX0_runs_9_J45 k E.2.2.2.2.2 z v2 v3 x4 x6 x7 t0 = some y) (hc : ∀ a : Int32 × Int32 × Int32 × XS, y = .inl a → xW p l e rmX0_runs_9 s m args below meth c E 8 Q 1 4 9 [(0, .ref (E.2.2.1 0)), (1, .ref (E.2.2.1 9)), (2, .int v2), (3, .int v3), (4, .int a.1), (5, .int a.2.1), (6, .int a.2.2.1)] [] a.2.2.2) (hx1 : ∀ b : Int32 × XS, y = .inr b → xW p l e rmX0_runs_9 s m args below meth c E 8 Q 1 4 99 [(1, .ref (E.2.2.1 9)), (2, .int v2), (3, .int v3), (4, .int b.1)] [] b.2) : xW p l e rmX0_runs_9 s m args below meth c E 8 Q 1 4 45 [(0, .ref (E.2.2.1 0)), (1, .ref (E.2.2.1 9)), (2, .int v2), (3, .int v3), (4, .int x4), (6, .int x6), (7, .int x7)] [.int t0] z := by
  intro H locs cells slots ls hP hS hB hl
  have hx := hC.1
  have hb := hC.2.1
  have hown := hC.2.2.2.2.2.1
  have hts := hC.2.2.2.2.2.2.1
  unfold fX0_runs_9_J45 at hE
  refine lv_istore (lv' := [(5, .int t0), (0, .ref (E.2.2.1 0)), (1, .ref (E.2.2.1 9)), (2, .int v2), (3, .int v3), (4, .int x4), (6, .int x6), (7, .int x7)]) hx hb dX0_runs_45 hl (Nat.le_of_ble_eq_true rfl) rfl (fun ls hl => ?_)
  refine lv_aload_n hx hb dX0_runs_47 rfl (lv_at hl 2 rfl) ?_
  refine lv_iconst (v := 2) hx hb dX0_runs_48 (by decide) ?_
  refine lv_iload hx hb dX0_runs_49 (lv_at hl 7 rfl) ?_
  refine lv_iadd hx hb dX0_runs_51 ?_
  obtain ⟨c_6, hE⟩ := og hE
  refine x_iald hC hP (⟨by decide, rfl, rfl⟩ : xint 9 190) c_6 dX0_runs_52 ?_
  refine lv_iconst (v := 1) hx hb dX0_runs_53 (by decide) ?_
  refine lv_icmp_eq (tgt := 60) hx hb dX0_runs_54 (by decide) (fun c_7 => ?_) (fun c_7 => ?_)
  · have hE := ip c_7 hE
    refine lv_iinc (v := (x4 + (1 : Int32))) (lv' := [(4, .int (x4 + (1 : Int32))), (5, .int t0), (0, .ref (E.2.2.1 0)), (1, .ref (E.2.2.1 9)), (2, .int v2), (3, .int v3), (6, .int x6), (7, .int x7)]) hx hb dX0_runs_60 hl (k := 5) rfl rfl (Nat.le_of_ble_eq_true rfl) rfl (fun ls hl => ?_)
    refine lv_aload_n hx hb dX0_runs_63 rfl (lv_at hl 3 rfl) ?_
    refine lv_bipush (v := 10) hx hb dX0_runs_64 (by decide) ?_
    obtain ⟨r_8, h_8, hE⟩ := ob hE
    refine x_callS (rc1 := _) (rs1 := _) [.ref (E.2.2.1 9), .int (10 : Int32)] hC hP hS hB hl.1 (wX0_drawn_9 z (10 : Int32) r_8 h_8) (va_cwS 2 hts lkX0_147 rfl rfl rfl cdX0_drawn ⟨Nat.le_of_ble_eq_true rfl, Nat.le_of_ble_eq_true rfl⟩) rfl rfl (lv_room (Nat.le_of_ble_eq_true rfl)) ⟨Nat.le_of_eq (Nat.zero_add _), Nat.le_of_eq (Nat.zero_add _)⟩ dX0_runs_66 (fun H locs cells slots hP hS hB => ?_)
    show W p l e _ s m args below meth c H locs cells slots _ (F0 m _ ls (.int r_8.1 :: []))
    refine lv_aload_n hx hb dX0_runs_69 rfl (lv_at hl 2 rfl) ?_
    refine lv_aload_n hx hb dX0_runs_70 rfl (lv_at hl 2 rfl) ?_
    obtain ⟨r_9, h_9, hE⟩ := ob hE
    refine x_callV (rc1 := _) (rs1 := _) [] (E.2.2.1 0) hC hP hS hB hl.1 (wX0_rules r_8.2  r_9 h_9) (xC.c0 hC) (xw_get E _ (k := 0) (by decide)) (cwV 0 hts lkX0_144 rfl rfl rfl cdX0_rules ⟨Nat.le_of_ble_eq_true rfl, Nat.le_of_ble_eq_true rfl⟩) rfl rfl (lv_room (Nat.le_of_ble_eq_true rfl)) ⟨Nat.le_of_eq (Nat.zero_add _), Nat.le_of_eq (Nat.zero_add _)⟩ dX0_runs_71 (fun H locs cells slots hP hS hB => ?_)
    show W p l e _ s m args below meth c H locs cells slots _ (F0 m _ ls (.ref r_9 :: .ref (E.2.2.1 0) :: .int r_8.1 :: []))
    refine lv_aload_n hx hb dX0_runs_74 rfl (lv_at hl 3 rfl) ?_
    refine lv_iload_n hx hb dX0_runs_75 rfl (lv_at hl 4 rfl) ?_
    refine lv_iload hx hb dX0_runs_76 (lv_at hl 7 rfl) ?_
    refine lv_iload hx hb dX0_runs_78 (lv_at hl 0 rfl) ?_
    obtain ⟨r_10, h_10, hE⟩ := ob hE
    refine x_callV (rc1 := _) (rs1 := _) [.ref r_9, .ref (E.2.2.1 9), .int v2, .int x7, .int (x4 + (1 : Int32))] (E.2.2.1 0) hC hP hS hB hl.1 (wX0_catchesBy_9 r_8.2 r_9 v2 x7 (x4 + (1 : Int32)) r_10 h_10) (xC.c0 hC) (xw_get E _ (k := 0) (by decide)) (cwV 5 hts lkX0_151 rfl rfl rfl cdX0_catchesBy ⟨Nat.le_of_ble_eq_true rfl, Nat.le_of_ble_eq_true rfl⟩) rfl rfl (lv_room (Nat.le_of_ble_eq_true rfl)) ⟨Nat.le_of_eq (Nat.zero_add _), Nat.le_of_eq (Nat.zero_add _)⟩ dX0_runs_80 (fun H locs cells slots hP hS hB => ?_)
    show W p l e _ s m args below meth c H locs cells slots _ (F0 m _ ls (.int r_10.1 :: .int r_8.1 :: []))
    refine lv_icmp_lt (tgt := 90) hx hb dX0_runs_83 (by decide) (fun c_11 => ?_) (fun c_11 => ?_)
    · have hE := ip c_11 hE
      refine lv_iconst (v := 0) hx hb dX0_runs_90 (by decide) ?_
      exact wX0_runs_9_J91 k r_10.2 v2 v3 (x4 + (1 : Int32)) x6 (0 : Int32) hC y hE hc hx1 H locs cells slots ls hP hS hB (lv_sub hl [2, 3, 4, 5, 0, 6] rfl)
    · have hE := iq c_11 hE
      refine lv_iconst (v := 1) hx hb dX0_runs_86 (by decide) ?_
      refine lv_goto (tgt := 91) hx hb dX0_runs_87 (by decide) ?_
      exact wX0_runs_9_J91 k r_10.2 v2 v3 (x4 + (1 : Int32)) x6 (1 : Int32) hC y hE hc hx1 H locs cells slots ls hP hS hB (lv_sub hl [2, 3, 4, 5, 0, 6] rfl)
  · have hE := iq c_7 hE
    refine lv_goto (tgt := 93) hx hb dX0_runs_57 (by decide) ?_
    refine lv_iinc (v := (x6 + (1 : Int32))) (lv' := [(6, .int (x6 + (1 : Int32))), (5, .int t0), (0, .ref (E.2.2.1 0)), (1, .ref (E.2.2.1 9)), (2, .int v2), (3, .int v3), (4, .int x4), (7, .int x7)]) hx hb dX0_runs_93 hl (k := 6) rfl rfl (Nat.le_of_ble_eq_true rfl) rfl (fun ls hl => ?_)
    refine lv_goto (tgt := 9) hx hb dX0_runs_96 (by decide) ?_
    exact hc _ (Option.some.inj hE).symm H locs cells slots ls hP hS hB (lv_sub hl [2, 3, 4, 5, 6, 1, 0] rfl)
noncomputable def fX0_runs_9_B9 (k : Nat) (V : XV) (v2 : Int32) (v3 : Int32) (a : Int32 × Int32 × Int32 × XS) : Option ((Int32 × Int32 × Int32 × XS) ⊕ (Int32 × XS)) := if (60 : Int32) ≤ a.2.2.1 then (some (.inr (a.1, a.2.2.2))) else (if a.2.1 = 0 then (some (.inr (a.1, a.2.2.2))) else (nm ((v3 + a.2.2.1) - (v3 + a.2.2.1) / (30 : Int32) * (30 : Int32)) fun v_3 => if ib ((2 : Int32) + v_3) 190 then none else (if (a.2.2.2.2.1 9 ((2 : Int32) + v_3).toNatClampNeg) = (3 : Int32) then ((fX0_runs_9_J45 k V a.2.2.2 v2 v3 a.1 a.2.2.1 v_3 (0 : Int32))) else ((fX0_runs_9_J45 k V a.2.2.2 v2 v3 a.1 a.2.2.1 v_3 (1 : Int32))))))
set_option maxHeartbeats 1000000 in
theorem wX0_runs_9_B9 {p : Program} {l : Launch} {e : Env} {s : State} {m : MethodId} {args : Array Value} {below : List Frame} {meth : Method} {c : Code} {E : XE} {Q : State → Prop} (k : Nat) (v2 : Int32) (v3 : Int32) (hC : xC E RX0 cX0_runs 8 (some .int) p s m args meth c) (a : Int32 × Int32 × Int32 × XS) (y : (Int32 × Int32 × Int32 × XS) ⊕ (Int32 × XS)) (hE : fX0_runs_9_B9 k E.2.2.2.2.2 v2 v3 a = some y) (hc : ∀ a : Int32 × Int32 × Int32 × XS, y = .inl a → xW p l e rmX0_runs_9 s m args below meth c E 8 Q 1 4 9 [(0, .ref (E.2.2.1 0)), (1, .ref (E.2.2.1 9)), (2, .int v2), (3, .int v3), (4, .int a.1), (5, .int a.2.1), (6, .int a.2.2.1)] [] a.2.2.2) (hx1 : ∀ b : Int32 × XS, y = .inr b → xW p l e rmX0_runs_9 s m args below meth c E 8 Q 1 4 99 [(1, .ref (E.2.2.1 9)), (2, .int v2), (3, .int v3), (4, .int b.1)] [] b.2) : xW p l e rmX0_runs_9 s m args below meth c E 8 Q 1 4 9 [(0, .ref (E.2.2.1 0)), (1, .ref (E.2.2.1 9)), (2, .int v2), (3, .int v3), (4, .int a.1), (5, .int a.2.1), (6, .int a.2.2.1)] [] a.2.2.2 := by
  intro H locs cells slots ls hP hS hB hl
  have hx := hC.1
  have hb := hC.2.1
  have hown := hC.2.2.2.2.2.1
  have hts := hC.2.2.2.2.2.2.1
  unfold fX0_runs_9_B9 at hE
  refine lv_iload hx hb dX0_runs_9 (lv_at hl 6 rfl) ?_
  refine lv_bipush (v := 60) hx hb dX0_runs_11 (by decide) ?_
  refine lv_icmp_ge (tgt := 99) hx hb dX0_runs_13 (by decide) (fun c_1 => ?_) (fun c_1 => ?_)
  · have hE := ip c_1 hE
    exact hx1 _ (Option.some.inj hE).symm H locs cells slots ls hP hS hB (lv_sub hl [1, 2, 3, 4] rfl)
  · have hE := iq c_1 hE
    refine lv_iload hx hb dX0_runs_16 (lv_at hl 5 rfl) ?_
    refine lv_if_eq (tgt := 99) hx hb dX0_runs_18 (by decide) (fun c_2 => ?_) (fun c_2 => ?_)
    · have hE := ip c_2 hE
      exact hx1 _ (Option.some.inj hE).symm H locs cells slots ls hP hS hB (lv_sub hl [1, 2, 3, 4] rfl)
    · have hE := iq c_2 hE
      refine lv_iload_n hx hb dX0_runs_21 rfl (lv_at hl 3 rfl) ?_
      refine lv_iload hx hb dX0_runs_22 (lv_at hl 6 rfl) ?_
      refine lv_iadd hx hb dX0_runs_24 ?_
      refine lv_bipush (v := 30) hx hb dX0_runs_25 (by decide) ?_
      refine lv_irem hx hb dX0_runs_27 (by decide) ?_
      refine nm_i hE (fun v_3 ev_3 hE => ?_)
      refine lv_istore (lv' := [(7, .int v_3), (0, .ref (E.2.2.1 0)), (1, .ref (E.2.2.1 9)), (2, .int v2), (3, .int v3), (4, .int a.1), (5, .int a.2.1), (6, .int a.2.2.1)]) hx hb dX0_runs_28 hl (Nat.le_of_ble_eq_true rfl) rfl (fun ls hl => ?_)
      refine lv_aload_n hx hb dX0_runs_30 rfl (lv_at hl 2 rfl) ?_
      refine lv_iconst (v := 2) hx hb dX0_runs_31 (by decide) ?_
      refine lv_iload hx hb dX0_runs_32 (lv_at hl 0 rfl) ?_
      refine lv_iadd hx hb dX0_runs_34 ?_
      obtain ⟨c_4, hE⟩ := og hE
      refine x_iald hC hP (⟨by decide, rfl, rfl⟩ : xint 9 190) c_4 dX0_runs_35 ?_
      refine lv_iconst (v := 3) hx hb dX0_runs_36 (by decide) ?_
      refine lv_icmp_eq (tgt := 44) hx hb dX0_runs_37 (by decide) (fun c_5 => ?_) (fun c_5 => ?_)
      · have hE := ip c_5 hE
        refine lv_iconst (v := 0) hx hb dX0_runs_44 (by decide) ?_
        exact wX0_runs_9_J45 k a.2.2.2 v2 v3 a.1 a.2.2.1 v_3 (0 : Int32) hC y hE hc hx1 H locs cells slots ls hP hS hB (lv_sub hl [1, 2, 3, 4, 5, 7, 0] rfl)
      · have hE := iq c_5 hE
        refine lv_iconst (v := 1) hx hb dX0_runs_40 (by decide) ?_
        refine lv_goto (tgt := 45) hx hb dX0_runs_41 (by decide) ?_
        exact wX0_runs_9_J45 k a.2.2.2 v2 v3 a.1 a.2.2.1 v_3 (1 : Int32) hC y hE hc hx1 H locs cells slots ls hP hS hB (lv_sub hl [1, 2, 3, 4, 5, 7, 0] rfl)
noncomputable def fX0_runs_9_J99 (k : Nat) (V : XV) (z : XS) (x2 : Int32) (x3 : Int32) (x4 : Int32) : Option (Int32 × XS) := if ib ((62 : Int32) + x2) 190 then none else (nm (xA z 9 (upd (z.2.1 9) ((62 : Int32) + x2).toNatClampNeg x4)) fun z_13 => (fX0_writes_9 z_13 x2 x3 x4).bind fun r_14 => some (x4, r_14))
set_option maxHeartbeats 1000000 in
theorem wX0_runs_9_J99 {p : Program} {l : Launch} {e : Env} {s : State} {m : MethodId} {args : Array Value} {below : List Frame} {meth : Method} {c : Code} {E : XE} (k : Nat) (z : XS) (x2 : Int32) (x3 : Int32) (x4 : Int32) (hC : xC E RX0 cX0_runs 8 (some .int) p s m args meth c) (y : Int32 × XS) (hE : fX0_runs_9_J99 k E.2.2.2.2.2 z x2 x3 x4 = some y) : xW p l e rmX0_runs_9 s m args below meth c E 8 (xQ E rmX0_runs_9 below args s (some (.int y.1)) y.2) 1 4 99 [(1, .ref (E.2.2.1 9)), (2, .int x2), (3, .int x3), (4, .int x4)] [] z := by
  intro H locs cells slots ls hP hS hB hl
  have hx := hC.1
  have hb := hC.2.1
  have hown := hC.2.2.2.2.2.1
  have hts := hC.2.2.2.2.2.2.1
  unfold fX0_runs_9_J99 at hE
  refine lv_aload_n hx hb dX0_runs_99 rfl (lv_at hl 0 rfl) ?_
  refine lv_bipush (v := 62) hx hb dX0_runs_100 (by decide) ?_
  refine lv_iload_n hx hb dX0_runs_102 rfl (lv_at hl 1 rfl) ?_
  refine lv_iadd hx hb dX0_runs_103 ?_
  refine lv_iload hx hb dX0_runs_104 (lv_at hl 3 rfl) ?_
  obtain ⟨c_13, hE⟩ := og hE
  obtain ⟨z_13, ez_13, hE⟩ := on hE
  refine x_iast hC hP hS (⟨by decide, rfl, rfl⟩ : xint 9 190) c_13 ez_13 dX0_runs_106 (fun H locs hP hS => ?_)
  refine lv_aload_n hx hb dX0_runs_107 rfl (lv_at hl 0 rfl) ?_
  refine lv_iload_n hx hb dX0_runs_108 rfl (lv_at hl 1 rfl) ?_
  refine lv_iload_n hx hb dX0_runs_109 rfl (lv_at hl 2 rfl) ?_
  refine lv_iload hx hb dX0_runs_110 (lv_at hl 3 rfl) ?_
  obtain ⟨r_14, h_14, hE⟩ := ob hE
  refine x_callS (rc1 := 0) (rs1 := 0) [.ref (E.2.2.1 9), .int x2, .int x3, .int x4] hC hP hS hB hl.1 (wX0_writes_9 z_13 x2 x3 x4 r_14 h_14) (va_cwS 4 hts lkX0_155 rfl rfl rfl cdX0_writes ⟨Nat.le_of_ble_eq_true rfl, Nat.le_of_ble_eq_true rfl⟩) rfl rfl (lv_room (Nat.le_of_ble_eq_true rfl)) ⟨Nat.le_of_ble_eq_true rfl, Nat.le_of_ble_eq_true rfl⟩ dX0_runs_112 (fun H locs cells slots hP hS hB => ?_)
  show W p l e _ s m args below meth c H locs cells slots _ (F0 m _ ls ([]))
  refine lv_iload hx hb dX0_runs_115 (lv_at hl 3 rfl) ?_
  obtain rfl := Option.some.inj hE
  exact x_iret hC hP hS hB dX0_runs_117
noncomputable def fX0_runs_9 (k : Nat) (V : XV) (z : XS) (x2 : Int32) (x3 : Int32) : Option (Int32 × XS) := (lpo (fX0_runs_9_B9 k V x2 x3) k ((0 : Int32), (1 : Int32), (0 : Int32), z)).bind fun x_12 => (fX0_runs_9_J99 k V x_12.2 x2 x3 x_12.1)
set_option maxHeartbeats 1000000 in
theorem wX0_runs_9 {l : Launch} {E : XE} (k : Nat) (z : XS) (x2 : Int32) (x3 : Int32) (y : Int32 × XS) (hE : fX0_runs_9 k E.2.2.2.2.2 z x2 x3 = some y) : xM l yX0_runs (ws_ yX0_runs cX0_runs 8 (some .int)) rmX0_runs_9 E z [.ref (E.2.2.1 0), .ref (E.2.2.1 9), .int x2, .int x3] (some (.int y.1)) y.2 := by
  refine x_met (own := RX0) (by decide) rfl (Nat.le_of_ble_eq_true rfl) (fun p e s m args below meth c hC => ?_)
  intro H locs cells slots ls hP hS hB hl
  have hx := hC.1
  have hb := hC.2.1
  have hown := hC.2.2.2.2.2.1
  have hts := hC.2.2.2.2.2.2.1
  have hl : lv_has ls 8 [(0, .ref (E.2.2.1 0)), (1, .ref (E.2.2.1 9)), (2, .int x2), (3, .int x3)] := hl
  unfold fX0_runs_9 at hE
  refine lv_iconst (v := 0) hx hb dX0_runs_0 (by decide) ?_
  refine lv_istore (lv' := [(4, .int (0 : Int32)), (0, .ref (E.2.2.1 0)), (1, .ref (E.2.2.1 9)), (2, .int x2), (3, .int x3)]) hx hb dX0_runs_1 hl (Nat.le_of_ble_eq_true rfl) rfl (fun ls hl => ?_)
  refine lv_iconst (v := 1) hx hb dX0_runs_3 (by decide) ?_
  refine lv_istore (lv' := [(5, .int (1 : Int32)), (4, .int (0 : Int32)), (0, .ref (E.2.2.1 0)), (1, .ref (E.2.2.1 9)), (2, .int x2), (3, .int x3)]) hx hb dX0_runs_4 hl (Nat.le_of_ble_eq_true rfl) rfl (fun ls hl => ?_)
  refine lv_iconst (v := 0) hx hb dX0_runs_6 (by decide) ?_
  refine lv_istore (lv' := [(6, .int (0 : Int32)), (5, .int (1 : Int32)), (4, .int (0 : Int32)), (0, .ref (E.2.2.1 0)), (1, .ref (E.2.2.1 9)), (2, .int x2), (3, .int x3)]) hx hb dX0_runs_7 hl (Nat.le_of_ble_eq_true rfl) rfl (fun ls hl => ?_)
  obtain ⟨x_12, h_12, hE⟩ := ob hE
  refine lpo_walk (fun p_12 : Int32 × Int32 × Int32 × XS => xW p l e rmX0_runs_9 s m args below meth c E 8 (xQ E rmX0_runs_9 below args s (some (.int y.1)) y.2) 1 4 9 [(0, .ref (E.2.2.1 0)), (1, .ref (E.2.2.1 9)), (2, .int x2), (3, .int x3), (4, .int p_12.1), (5, .int p_12.2.1), (6, .int p_12.2.2.1)] [] p_12.2.2.2) (fun q_12 : Int32 × XS => xW p l e rmX0_runs_9 s m args below meth c E 8 (xQ E rmX0_runs_9 below args s (some (.int y.1)) y.2) 1 4 99 [(1, .ref (E.2.2.1 9)), (2, .int x2), (3, .int x3), (4, .int q_12.1)] [] q_12.2) (fun a_12 y_12 hB_12 hc_12 hx_12 => wX0_runs_9_B9 k x2 x3 hC a_12 y_12 hB_12 hc_12 hx_12) _ _ x_12 h_12 ?_ H locs cells slots ls hP hS hB (lv_sub hl [3, 4, 5, 6, 2, 1, 0] rfl)
  intro H locs cells slots ls hP hS hB hl
  exact wX0_runs_9_J99 k x_12.2 x2 x3 x_12.1 hC y hE H locs cells slots ls hP hS hB hl
noncomputable def fX0_run (k : Nat) (V : XV) (z : XS) (x1 : Int32) (x2 : Int32) : Option (Int32 × XS) := (fX0_canRun z x1).bind fun r_1 => if r_1 = 0 then (some ((-1 : Int32), z)) else ((fX0_isPlace x2).bind fun r_3 => if r_3 = 0 then (some ((-1 : Int32), z)) else ((fX1_keeps k z ).bind fun r_5 => (fX0_runs_9 k V r_5 x1 x2).bind fun r_6 => some (r_6.1, r_6.2)))
set_option maxHeartbeats 1000000 in
theorem wX0_run {l : Launch} {E : XE} (k : Nat) (z : XS) (x1 : Int32) (x2 : Int32) (y : Int32 × XS) (hE : fX0_run k E.2.2.2.2.2 z x1 x2 = some y) : xM l yX0_run (ws_ yX0_run cX0_run 3 (some .int)) rmX0_run E z [.ref (E.2.2.1 0), .int x1, .int x2] (some (.int y.1)) y.2 := by
  refine x_met (own := RX0) (by decide) rfl (Nat.le_of_ble_eq_true rfl) (fun p e s m args below meth c hC => ?_)
  intro H locs cells slots ls hP hS hB hl
  have hx := hC.1
  have hb := hC.2.1
  have hown := hC.2.2.2.2.2.1
  have hts := hC.2.2.2.2.2.2.1
  have hl : lv_has ls 3 [(0, .ref (E.2.2.1 0)), (1, .int x1), (2, .int x2)] := hl
  unfold fX0_run at hE
  refine lv_aload_n hx hb dX0_run_0 rfl (lv_at hl 0 rfl) ?_
  refine lv_iload_n hx hb dX0_run_1 rfl (lv_at hl 1 rfl) ?_
  obtain ⟨r_1, h_1, hE⟩ := ob hE
  refine x_callV (rc1 := _) (rs1 := _) [.int x1] (E.2.2.1 0) hC hP hS hB hl.1 (wX0_canRun z x1 r_1 h_1) (xC.c0 hC) (xw_get E _ (k := 0) (by decide)) (cwV 1 hts lkX0_162 rfl rfl rfl cdX0_canRun ⟨Nat.le_of_ble_eq_true rfl, Nat.le_of_ble_eq_true rfl⟩) rfl rfl (lv_room (Nat.le_of_ble_eq_true rfl)) ⟨Nat.le_of_eq (Nat.zero_add _), Nat.le_of_eq (Nat.zero_add _)⟩ dX0_run_2 (fun H locs cells slots hP hS hB => ?_)
  show W p l e _ s m args below meth c H locs cells slots _ (F0 m _ ls (.int r_1 :: []))
  refine lv_if_eq (tgt := 15) hx hb dX0_run_5 (by decide) (fun c_2 => ?_) (fun c_2 => ?_)
  · have hE := ip c_2 hE
    refine lv_iconst (v := -1) hx hb dX0_run_15 (by decide) ?_
    obtain rfl := Option.some.inj hE
    exact x_iret hC hP hS hB dX0_run_16
  · have hE := iq c_2 hE
    refine lv_iload_n hx hb dX0_run_8 rfl (lv_at hl 2 rfl) ?_
    obtain ⟨r_3, h_3, hE⟩ := ob hE
    refine s_calli [.int x2] hC.sC hl.1 (wX0_isPlace x2 r_3 h_3) (va_cwS 1 hts lkX0_68 rfl rfl rfl cdX0_isPlace ⟨Nat.le_of_ble_eq_true rfl, Nat.le_of_ble_eq_true rfl⟩) rfl rfl (lv_room (Nat.le_of_ble_eq_true rfl)) (hB0 hB) dX0_run_9 ?_
    refine lv_if_ne (tgt := 17) hx hb dX0_run_12 (by decide) (fun c_4 => ?_) (fun c_4 => ?_)
    · have hE := iq c_4 hE
      refine lv_aload_n hx hb dX0_run_17 rfl (lv_at hl 0 rfl) ?_
      refine gX_21 hC hP dX0_run_18 ?_
      obtain ⟨r_5, h_5, hE⟩ := ob hE
      refine x_callV (rc1 := _) (rs1 := _) [] (E.2.2.1 1) hC hP hS hB hl.1 (wX1_keeps k z  r_5 h_5) (xC.c1 hC) (xw_get E _ (k := 1) (by decide)) (cwV 0 hts lkX0_165 rfl rfl rfl cdX1_keeps ⟨Nat.le_of_ble_eq_true rfl, Nat.le_of_ble_eq_true rfl⟩) rfl rfl (lv_room (Nat.le_of_ble_eq_true rfl)) ⟨Nat.le_of_eq (Nat.zero_add _), Nat.le_of_eq (Nat.zero_add _)⟩ dX0_run_21 (fun H locs cells slots hP hS hB => ?_)
      show W p l e _ s m args below meth c H locs cells slots _ (F0 m _ ls ([]))
      refine lv_aload_n hx hb dX0_run_24 rfl (lv_at hl 0 rfl) ?_
      refine lv_aload_n hx hb dX0_run_25 rfl (lv_at hl 0 rfl) ?_
      refine gX_21 hC hP dX0_run_26 ?_
      refine gN_65_1 hC hP dX0_run_29 ?_
      refine lv_iload_n hx hb dX0_run_32 rfl (lv_at hl 1 rfl) ?_
      refine lv_iload_n hx hb dX0_run_33 rfl (lv_at hl 2 rfl) ?_
      obtain ⟨r_6, h_6, hE⟩ := ob hE
      refine x_callV (rc1 := 0) (rs1 := 0) [.ref (E.2.2.1 9), .int x1, .int x2] (E.2.2.1 0) hC hP hS hB hl.1 (wX0_runs_9 k r_5 x1 x2 r_6 h_6) (xC.c0 hC) (xw_get E _ (k := 0) (by decide)) (cwV 3 hts lkX0_168 rfl rfl rfl cdX0_runs ⟨Nat.le_of_ble_eq_true rfl, Nat.le_of_ble_eq_true rfl⟩) rfl rfl (lv_room (Nat.le_of_ble_eq_true rfl)) ⟨Nat.le_of_ble_eq_true rfl, Nat.le_of_ble_eq_true rfl⟩ dX0_run_34 (fun H locs cells slots hP hS hB => ?_)
      show W p l e _ s m args below meth c H locs cells slots _ (F0 m _ ls (.int r_6.1 :: []))
      obtain rfl := Option.some.inj hE
      exact x_iret hC hP hS hB dX0_run_37
    · have hE := ip c_4 hE
      refine lv_iconst (v := -1) hx hb dX0_run_15 (by decide) ?_
      obtain rfl := Option.some.inj hE
      exact x_iret hC hP hS hB dX0_run_16
noncomputable def fX0_kindAt (z : XS) (x1 : Int32) : Option Int32 := if ib ((2 : Int32) + x1) 190 then none else (some (z.2.1 9 ((2 : Int32) + x1).toNatClampNeg))
set_option maxHeartbeats 1000000 in
theorem wX0_kindAt {l : Launch} {E : XE} (z : XS) (x1 : Int32) (y : Int32) (hE : fX0_kindAt z x1 = some y) : xM l yX0_kindAt (ws_ yX0_kindAt cX0_kindAt 2 (some .int)) rmX0_kindAt E z [.ref (E.2.2.1 0), .int x1] (some (.int y)) z := by
  refine x_met (own := RX0) (by decide) rfl (Nat.le_of_ble_eq_true rfl) (fun p e s m args below meth c hC => ?_)
  intro H locs cells slots ls hP hS hB hl
  have hx := hC.1
  have hb := hC.2.1
  have hown := hC.2.2.2.2.2.1
  have hts := hC.2.2.2.2.2.2.1
  have hl : lv_has ls 2 [(0, .ref (E.2.2.1 0)), (1, .int x1)] := hl
  unfold fX0_kindAt at hE
  refine lv_aload_n hx hb dX0_kindAt_0 rfl (lv_at hl 0 rfl) ?_
  refine gX_21 hC hP dX0_kindAt_1 ?_
  refine gN_65_1 hC hP dX0_kindAt_4 ?_
  refine lv_iconst (v := 2) hx hb dX0_kindAt_7 (by decide) ?_
  refine lv_iload_n hx hb dX0_kindAt_8 rfl (lv_at hl 1 rfl) ?_
  refine lv_iadd hx hb dX0_kindAt_9 ?_
  obtain ⟨c_1, hE⟩ := og hE
  refine x_iald hC hP (⟨by decide, rfl, rfl⟩ : xint 9 190) c_1 dX0_kindAt_10 ?_
  obtain rfl := Option.some.inj hE
  exact x_iret hC hP hS hB dX0_kindAt_11
noncomputable def fX0_isKind (z : XS) (x1 : Int32) (x2 : Int32) : Option Int32 := (fX0_isPlace x1).bind fun r_1 => if r_1 = 0 then (some (0 : Int32)) else ((fX0_kindAt z x1).bind fun r_3 => if r_3 = x2 then (some (1 : Int32)) else (some (0 : Int32)))
set_option maxHeartbeats 1000000 in
theorem wX0_isKind {l : Launch} {E : XE} (z : XS) (x1 : Int32) (x2 : Int32) (y : Int32) (hE : fX0_isKind z x1 x2 = some y) : xM l yX0_isKind (ws_ yX0_isKind cX0_isKind 3 (some .boolean)) rmX0_isKind E z [.ref (E.2.2.1 0), .int x1, .int x2] (some (.int y)) z := by
  refine x_met (own := RX0) (by decide) rfl (Nat.le_of_ble_eq_true rfl) (fun p e s m args below meth c hC => ?_)
  intro H locs cells slots ls hP hS hB hl
  have hx := hC.1
  have hb := hC.2.1
  have hown := hC.2.2.2.2.2.1
  have hts := hC.2.2.2.2.2.2.1
  have hl : lv_has ls 3 [(0, .ref (E.2.2.1 0)), (1, .int x1), (2, .int x2)] := hl
  unfold fX0_isKind at hE
  refine lv_iload_n hx hb dX0_isKind_0 rfl (lv_at hl 1 rfl) ?_
  obtain ⟨r_1, h_1, hE⟩ := ob hE
  refine s_calli [.int x1] hC.sC hl.1 (wX0_isPlace x1 r_1 h_1) (va_cwS 1 hts lkX0_68 rfl rfl rfl cdX0_isPlace ⟨Nat.le_of_ble_eq_true rfl, Nat.le_of_ble_eq_true rfl⟩) rfl rfl (lv_room (Nat.le_of_ble_eq_true rfl)) (hB0 hB) dX0_isKind_1 ?_
  refine lv_if_eq (tgt := 20) hx hb dX0_isKind_4 (by decide) (fun c_2 => ?_) (fun c_2 => ?_)
  · have hE := ip c_2 hE
    refine lv_iconst (v := 0) hx hb dX0_isKind_20 (by decide) ?_
    obtain rfl := Option.some.inj hE
    exact x_zret (v := (0 : Int32)) hC hP hS hB (by decide) dX0_isKind_21
  · have hE := iq c_2 hE
    refine lv_aload_n hx hb dX0_isKind_7 rfl (lv_at hl 0 rfl) ?_
    refine lv_iload_n hx hb dX0_isKind_8 rfl (lv_at hl 1 rfl) ?_
    obtain ⟨r_3, h_3, hE⟩ := ob hE
    refine x_callV (rc1 := _) (rs1 := _) [.int x1] (E.2.2.1 0) hC hP hS hB hl.1 (wX0_kindAt z x1 r_3 h_3) (xC.c0 hC) (xw_get E _ (k := 0) (by decide)) (cwV 1 hts lkX0_172 rfl rfl rfl cdX0_kindAt ⟨Nat.le_of_ble_eq_true rfl, Nat.le_of_ble_eq_true rfl⟩) rfl rfl (lv_room (Nat.le_of_ble_eq_true rfl)) ⟨Nat.le_of_eq (Nat.zero_add _), Nat.le_of_eq (Nat.zero_add _)⟩ dX0_isKind_9 (fun H locs cells slots hP hS hB => ?_)
    show W p l e _ s m args below meth c H locs cells slots _ (F0 m _ ls (.int r_3 :: []))
    refine lv_iload_n hx hb dX0_isKind_12 rfl (lv_at hl 2 rfl) ?_
    refine lv_icmp_ne (tgt := 20) hx hb dX0_isKind_13 (by decide) (fun c_4 => ?_) (fun c_4 => ?_)
    · have hE := iq c_4 hE
      refine lv_iconst (v := 0) hx hb dX0_isKind_20 (by decide) ?_
      obtain rfl := Option.some.inj hE
      exact x_zret (v := (0 : Int32)) hC hP hS hB (by decide) dX0_isKind_21
    · have hE := ip c_4 hE
      refine lv_iconst (v := 1) hx hb dX0_isKind_16 (by decide) ?_
      refine lv_goto (tgt := 21) hx hb dX0_isKind_17 (by decide) ?_
      obtain rfl := Option.some.inj hE
      exact x_zret (v := (1 : Int32)) hC hP hS hB (by decide) dX0_isKind_21
noncomputable def fX0_cuts (z : XS) (x1 : Int32) : Option XS := if ib ((2 : Int32) + x1) 190 then none else (nm (xA z 9 (upd (z.2.1 9) ((2 : Int32) + x1).toNatClampNeg (0 : Int32))) fun z_1 => some z_1)
set_option maxHeartbeats 1000000 in
theorem wX0_cuts {l : Launch} {E : XE} (z : XS) (x1 : Int32) (y : XS) (hE : fX0_cuts z x1 = some y) : xM l yX0_cuts (ws_ yX0_cuts cX0_cuts 2 none) rmX0_cuts E z [.ref (E.2.2.1 0), .int x1] none y := by
  refine x_met (own := RX0) (by decide) rfl (Nat.le_of_ble_eq_true rfl) (fun p e s m args below meth c hC => ?_)
  intro H locs cells slots ls hP hS hB hl
  have hx := hC.1
  have hb := hC.2.1
  have hown := hC.2.2.2.2.2.1
  have hts := hC.2.2.2.2.2.2.1
  have hl : lv_has ls 2 [(0, .ref (E.2.2.1 0)), (1, .int x1)] := hl
  unfold fX0_cuts at hE
  refine lv_aload_n hx hb dX0_cuts_0 rfl (lv_at hl 0 rfl) ?_
  refine gX_21 hC hP dX0_cuts_1 ?_
  refine gN_65_1 hC hP dX0_cuts_4 ?_
  refine lv_iconst (v := 2) hx hb dX0_cuts_7 (by decide) ?_
  refine lv_iload_n hx hb dX0_cuts_8 rfl (lv_at hl 1 rfl) ?_
  refine lv_iadd hx hb dX0_cuts_9 ?_
  refine lv_iconst (v := 0) hx hb dX0_cuts_10 (by decide) ?_
  obtain ⟨c_1, hE⟩ := og hE
  obtain ⟨z_1, ez_1, hE⟩ := on hE
  refine x_iast hC hP hS (⟨by decide, rfl, rfl⟩ : xint 9 190) c_1 ez_1 dX0_cuts_11 (fun H locs hP hS => ?_)
  obtain rfl := Option.some.inj hE
  exact x_vret hC hP hS hB dX0_cuts_12
noncomputable def fX0_cut (k : Nat) (z : XS) (x1 : Int32) : Option (Int32 × XS) := (fX0_isKind z x1 (1 : Int32)).bind fun r_1 => if r_1 = 0 then (some ((0 : Int32), z)) else ((fX1_keeps k z ).bind fun r_3 => (fX0_cuts r_3 x1).bind fun r_4 => some ((1 : Int32), r_4))
set_option maxHeartbeats 1000000 in
theorem wX0_cut {l : Launch} {E : XE} (k : Nat) (z : XS) (x1 : Int32) (y : Int32 × XS) (hE : fX0_cut k z x1 = some y) : xM l yX0_cut (ws_ yX0_cut cX0_cut 2 (some .boolean)) rmX0_cut E z [.ref (E.2.2.1 0), .int x1] (some (.int y.1)) y.2 := by
  refine x_met (own := RX0) (by decide) rfl (Nat.le_of_ble_eq_true rfl) (fun p e s m args below meth c hC => ?_)
  intro H locs cells slots ls hP hS hB hl
  have hx := hC.1
  have hb := hC.2.1
  have hown := hC.2.2.2.2.2.1
  have hts := hC.2.2.2.2.2.2.1
  have hl : lv_has ls 2 [(0, .ref (E.2.2.1 0)), (1, .int x1)] := hl
  unfold fX0_cut at hE
  refine lv_aload_n hx hb dX0_cut_0 rfl (lv_at hl 0 rfl) ?_
  refine lv_iload_n hx hb dX0_cut_1 rfl (lv_at hl 1 rfl) ?_
  refine lv_iconst (v := 1) hx hb dX0_cut_2 (by decide) ?_
  obtain ⟨r_1, h_1, hE⟩ := ob hE
  refine x_callV (rc1 := _) (rs1 := _) [.int x1, .int (1 : Int32)] (E.2.2.1 0) hC hP hS hB hl.1 (wX0_isKind z x1 (1 : Int32) r_1 h_1) (xC.c0 hC) (xw_get E _ (k := 0) (by decide)) (cwV 2 hts lkX0_176 rfl rfl rfl cdX0_isKind ⟨Nat.le_of_ble_eq_true rfl, Nat.le_of_ble_eq_true rfl⟩) rfl rfl (lv_room (Nat.le_of_ble_eq_true rfl)) ⟨Nat.le_of_eq (Nat.zero_add _), Nat.le_of_eq (Nat.zero_add _)⟩ dX0_cut_3 (fun H locs cells slots hP hS hB => ?_)
  show W p l e _ s m args below meth c H locs cells slots _ (F0 m _ ls (.int r_1 :: []))
  refine lv_if_ne (tgt := 11) hx hb dX0_cut_6 (by decide) (fun c_2 => ?_) (fun c_2 => ?_)
  · have hE := iq c_2 hE
    refine lv_aload_n hx hb dX0_cut_11 rfl (lv_at hl 0 rfl) ?_
    refine gX_21 hC hP dX0_cut_12 ?_
    obtain ⟨r_3, h_3, hE⟩ := ob hE
    refine x_callV (rc1 := _) (rs1 := _) [] (E.2.2.1 1) hC hP hS hB hl.1 (wX1_keeps k z  r_3 h_3) (xC.c1 hC) (xw_get E _ (k := 1) (by decide)) (cwV 0 hts lkX0_165 rfl rfl rfl cdX1_keeps ⟨Nat.le_of_ble_eq_true rfl, Nat.le_of_ble_eq_true rfl⟩) rfl rfl (lv_room (Nat.le_of_ble_eq_true rfl)) ⟨Nat.le_of_eq (Nat.zero_add _), Nat.le_of_eq (Nat.zero_add _)⟩ dX0_cut_15 (fun H locs cells slots hP hS hB => ?_)
    show W p l e _ s m args below meth c H locs cells slots _ (F0 m _ ls ([]))
    refine lv_aload_n hx hb dX0_cut_18 rfl (lv_at hl 0 rfl) ?_
    refine lv_iload_n hx hb dX0_cut_19 rfl (lv_at hl 1 rfl) ?_
    obtain ⟨r_4, h_4, hE⟩ := ob hE
    refine x_callV (rc1 := _) (rs1 := _) [.int x1] (E.2.2.1 0) hC hP hS hB hl.1 (wX0_cuts r_3 x1 r_4 h_4) (xC.c0 hC) (xw_get E _ (k := 0) (by decide)) (cwV 1 hts lkX0_180 rfl rfl rfl cdX0_cuts ⟨Nat.le_of_ble_eq_true rfl, Nat.le_of_ble_eq_true rfl⟩) rfl rfl (lv_room (Nat.le_of_ble_eq_true rfl)) ⟨Nat.le_of_eq (Nat.zero_add _), Nat.le_of_eq (Nat.zero_add _)⟩ dX0_cut_20 (fun H locs cells slots hP hS hB => ?_)
    show W p l e _ s m args below meth c H locs cells slots _ (F0 m _ ls ([]))
    refine lv_iconst (v := 1) hx hb dX0_cut_23 (by decide) ?_
    obtain rfl := Option.some.inj hE
    exact x_zret (v := (1 : Int32)) hC hP hS hB (by decide) dX0_cut_24
  · have hE := ip c_2 hE
    refine lv_iconst (v := 0) hx hb dX0_cut_9 (by decide) ?_
    obtain rfl := Option.some.inj hE
    exact x_zret (v := (0 : Int32)) hC hP hS hB (by decide) dX0_cut_10
noncomputable def fX0_adds (z : XS) (x1 : Int32) : Option XS := if ib ((2 : Int32) + x1) 190 then none else (nm (xA z 9 (upd (z.2.1 9) ((2 : Int32) + x1).toNatClampNeg (1 : Int32))) fun z_1 => if ib ((32 : Int32) + x1) 190 then none else (nm (xA z_1 9 (upd (z_1.2.1 9) ((32 : Int32) + x1).toNatClampNeg (0 : Int32))) fun z_2 => some z_2))
set_option maxHeartbeats 1000000 in
theorem wX0_adds {l : Launch} {E : XE} (z : XS) (x1 : Int32) (y : XS) (hE : fX0_adds z x1 = some y) : xM l yX0_adds (ws_ yX0_adds cX0_adds 2 none) rmX0_adds E z [.ref (E.2.2.1 0), .int x1] none y := by
  refine x_met (own := RX0) (by decide) rfl (Nat.le_of_ble_eq_true rfl) (fun p e s m args below meth c hC => ?_)
  intro H locs cells slots ls hP hS hB hl
  have hx := hC.1
  have hb := hC.2.1
  have hown := hC.2.2.2.2.2.1
  have hts := hC.2.2.2.2.2.2.1
  have hl : lv_has ls 2 [(0, .ref (E.2.2.1 0)), (1, .int x1)] := hl
  unfold fX0_adds at hE
  refine lv_aload_n hx hb dX0_adds_0 rfl (lv_at hl 0 rfl) ?_
  refine gX_21 hC hP dX0_adds_1 ?_
  refine gN_65_1 hC hP dX0_adds_4 ?_
  refine lv_iconst (v := 2) hx hb dX0_adds_7 (by decide) ?_
  refine lv_iload_n hx hb dX0_adds_8 rfl (lv_at hl 1 rfl) ?_
  refine lv_iadd hx hb dX0_adds_9 ?_
  refine lv_iconst (v := 1) hx hb dX0_adds_10 (by decide) ?_
  obtain ⟨c_1, hE⟩ := og hE
  obtain ⟨z_1, ez_1, hE⟩ := on hE
  refine x_iast hC hP hS (⟨by decide, rfl, rfl⟩ : xint 9 190) c_1 ez_1 dX0_adds_11 (fun H locs hP hS => ?_)
  refine lv_aload_n hx hb dX0_adds_12 rfl (lv_at hl 0 rfl) ?_
  refine gX_21 hC hP dX0_adds_13 ?_
  refine gN_65_1 hC hP dX0_adds_16 ?_
  refine lv_bipush (v := 32) hx hb dX0_adds_19 (by decide) ?_
  refine lv_iload_n hx hb dX0_adds_21 rfl (lv_at hl 1 rfl) ?_
  refine lv_iadd hx hb dX0_adds_22 ?_
  refine lv_iconst (v := 0) hx hb dX0_adds_23 (by decide) ?_
  obtain ⟨c_2, hE⟩ := og hE
  obtain ⟨z_2, ez_2, hE⟩ := on hE
  refine x_iast hC hP hS (⟨by decide, rfl, rfl⟩ : xint 9 190) c_2 ez_2 dX0_adds_24 (fun H locs hP hS => ?_)
  obtain rfl := Option.some.inj hE
  exact x_vret hC hP hS hB dX0_adds_25
noncomputable def fX0_add (k : Nat) (z : XS) (x1 : Int32) : Option (Int32 × XS) := (fX0_isKind z x1 (0 : Int32)).bind fun r_1 => if r_1 = 0 then (some ((0 : Int32), z)) else ((fX1_keeps k z ).bind fun r_3 => (fX0_adds r_3 x1).bind fun r_4 => some ((1 : Int32), r_4))
set_option maxHeartbeats 1000000 in
theorem wX0_add {l : Launch} {E : XE} (k : Nat) (z : XS) (x1 : Int32) (y : Int32 × XS) (hE : fX0_add k z x1 = some y) : xM l yX0_add (ws_ yX0_add cX0_add 2 (some .boolean)) rmX0_add E z [.ref (E.2.2.1 0), .int x1] (some (.int y.1)) y.2 := by
  refine x_met (own := RX0) (by decide) rfl (Nat.le_of_ble_eq_true rfl) (fun p e s m args below meth c hC => ?_)
  intro H locs cells slots ls hP hS hB hl
  have hx := hC.1
  have hb := hC.2.1
  have hown := hC.2.2.2.2.2.1
  have hts := hC.2.2.2.2.2.2.1
  have hl : lv_has ls 2 [(0, .ref (E.2.2.1 0)), (1, .int x1)] := hl
  unfold fX0_add at hE
  refine lv_aload_n hx hb dX0_add_0 rfl (lv_at hl 0 rfl) ?_
  refine lv_iload_n hx hb dX0_add_1 rfl (lv_at hl 1 rfl) ?_
  refine lv_iconst (v := 0) hx hb dX0_add_2 (by decide) ?_
  obtain ⟨r_1, h_1, hE⟩ := ob hE
  refine x_callV (rc1 := _) (rs1 := _) [.int x1, .int (0 : Int32)] (E.2.2.1 0) hC hP hS hB hl.1 (wX0_isKind z x1 (0 : Int32) r_1 h_1) (xC.c0 hC) (xw_get E _ (k := 0) (by decide)) (cwV 2 hts lkX0_176 rfl rfl rfl cdX0_isKind ⟨Nat.le_of_ble_eq_true rfl, Nat.le_of_ble_eq_true rfl⟩) rfl rfl (lv_room (Nat.le_of_ble_eq_true rfl)) ⟨Nat.le_of_eq (Nat.zero_add _), Nat.le_of_eq (Nat.zero_add _)⟩ dX0_add_3 (fun H locs cells slots hP hS hB => ?_)
  show W p l e _ s m args below meth c H locs cells slots _ (F0 m _ ls (.int r_1 :: []))
  refine lv_if_ne (tgt := 11) hx hb dX0_add_6 (by decide) (fun c_2 => ?_) (fun c_2 => ?_)
  · have hE := iq c_2 hE
    refine lv_aload_n hx hb dX0_add_11 rfl (lv_at hl 0 rfl) ?_
    refine gX_21 hC hP dX0_add_12 ?_
    obtain ⟨r_3, h_3, hE⟩ := ob hE
    refine x_callV (rc1 := _) (rs1 := _) [] (E.2.2.1 1) hC hP hS hB hl.1 (wX1_keeps k z  r_3 h_3) (xC.c1 hC) (xw_get E _ (k := 1) (by decide)) (cwV 0 hts lkX0_165 rfl rfl rfl cdX1_keeps ⟨Nat.le_of_ble_eq_true rfl, Nat.le_of_ble_eq_true rfl⟩) rfl rfl (lv_room (Nat.le_of_ble_eq_true rfl)) ⟨Nat.le_of_eq (Nat.zero_add _), Nat.le_of_eq (Nat.zero_add _)⟩ dX0_add_15 (fun H locs cells slots hP hS hB => ?_)
    show W p l e _ s m args below meth c H locs cells slots _ (F0 m _ ls ([]))
    refine lv_aload_n hx hb dX0_add_18 rfl (lv_at hl 0 rfl) ?_
    refine lv_iload_n hx hb dX0_add_19 rfl (lv_at hl 1 rfl) ?_
    obtain ⟨r_4, h_4, hE⟩ := ob hE
    refine x_callV (rc1 := _) (rs1 := _) [.int x1] (E.2.2.1 0) hC hP hS hB hl.1 (wX0_adds r_3 x1 r_4 h_4) (xC.c0 hC) (xw_get E _ (k := 0) (by decide)) (cwV 1 hts lkX0_183 rfl rfl rfl cdX0_adds ⟨Nat.le_of_ble_eq_true rfl, Nat.le_of_ble_eq_true rfl⟩) rfl rfl (lv_room (Nat.le_of_ble_eq_true rfl)) ⟨Nat.le_of_eq (Nat.zero_add _), Nat.le_of_eq (Nat.zero_add _)⟩ dX0_add_20 (fun H locs cells slots hP hS hB => ?_)
    show W p l e _ s m args below meth c H locs cells slots _ (F0 m _ ls ([]))
    refine lv_iconst (v := 1) hx hb dX0_add_23 (by decide) ?_
    obtain rfl := Option.some.inj hE
    exact x_zret (v := (1 : Int32)) hC hP hS hB (by decide) dX0_add_24
  · have hE := ip c_2 hE
    refine lv_iconst (v := 0) hx hb dX0_add_9 (by decide) ?_
    obtain rfl := Option.some.inj hE
    exact x_zret (v := (0 : Int32)) hC hP hS hB (by decide) dX0_add_10
noncomputable def fX0_paintsOf_9 (V : XV) (z : XS) (x2 : Int32) : Option (Int32 × XS) := (fX0_namesOf_9 z x2).bind fun r_1 => (fX0_rules V r_1 ).bind fun r_2 => (fX0_law V r_1 r_2 (1 : Int32) (9 : Int32)).bind fun r_3 => some (r_3, r_1)
set_option maxHeartbeats 1000000 in
theorem wX0_paintsOf_9 {l : Launch} {E : XE} (z : XS) (x2 : Int32) (y : Int32 × XS) (hE : fX0_paintsOf_9 E.2.2.2.2.2 z x2 = some y) : xM l yX0_paintsOf (ws_ yX0_paintsOf cX0_paintsOf 3 (some .int)) rmX0_paintsOf_9 E z [.ref (E.2.2.1 0), .ref (E.2.2.1 9), .int x2] (some (.int y.1)) y.2 := by
  refine x_met (own := RX0) (by decide) rfl (Nat.le_of_ble_eq_true rfl) (fun p e s m args below meth c hC => ?_)
  intro H locs cells slots ls hP hS hB hl
  have hx := hC.1
  have hb := hC.2.1
  have hown := hC.2.2.2.2.2.1
  have hts := hC.2.2.2.2.2.2.1
  have hl : lv_has ls 3 [(0, .ref (E.2.2.1 0)), (1, .ref (E.2.2.1 9)), (2, .int x2)] := hl
  unfold fX0_paintsOf_9 at hE
  refine lv_aload_n hx hb dX0_paintsOf_0 rfl (lv_at hl 0 rfl) ?_
  refine lv_aload_n hx hb dX0_paintsOf_1 rfl (lv_at hl 1 rfl) ?_
  refine lv_iload_n hx hb dX0_paintsOf_2 rfl (lv_at hl 2 rfl) ?_
  obtain ⟨r_1, h_1, hE⟩ := ob hE
  refine x_callV (rc1 := _) (rs1 := _) [.ref (E.2.2.1 9), .int x2] (E.2.2.1 0) hC hP hS hB hl.1 (wX0_namesOf_9 z x2 r_1 h_1) (xC.c0 hC) (xw_get E _ (k := 0) (by decide)) (cwV 2 hts lkX0_137 rfl rfl rfl cdX0_namesOf ⟨Nat.le_of_ble_eq_true rfl, Nat.le_of_ble_eq_true rfl⟩) rfl rfl (lv_room (Nat.le_of_ble_eq_true rfl)) ⟨Nat.le_of_eq (Nat.zero_add _), Nat.le_of_eq (Nat.zero_add _)⟩ dX0_paintsOf_3 (fun H locs cells slots hP hS hB => ?_)
  show W p l e _ s m args below meth c H locs cells slots _ (F0 m _ ls ([]))
  refine lv_aload_n hx hb dX0_paintsOf_6 rfl (lv_at hl 0 rfl) ?_
  refine lv_aload_n hx hb dX0_paintsOf_7 rfl (lv_at hl 0 rfl) ?_
  obtain ⟨r_2, h_2, hE⟩ := ob hE
  refine x_callV (rc1 := _) (rs1 := _) [] (E.2.2.1 0) hC hP hS hB hl.1 (wX0_rules r_1  r_2 h_2) (xC.c0 hC) (xw_get E _ (k := 0) (by decide)) (cwV 0 hts lkX0_144 rfl rfl rfl cdX0_rules ⟨Nat.le_of_ble_eq_true rfl, Nat.le_of_ble_eq_true rfl⟩) rfl rfl (lv_room (Nat.le_of_ble_eq_true rfl)) ⟨Nat.le_of_eq (Nat.zero_add _), Nat.le_of_eq (Nat.zero_add _)⟩ dX0_paintsOf_8 (fun H locs cells slots hP hS hB => ?_)
  show W p l e _ s m args below meth c H locs cells slots _ (F0 m _ ls (.ref r_2 :: .ref (E.2.2.1 0) :: []))
  refine lv_iconst (v := 1) hx hb dX0_paintsOf_11 (by decide) ?_
  refine lv_bipush (v := 9) hx hb dX0_paintsOf_12 (by decide) ?_
  obtain ⟨r_3, h_3, hE⟩ := ob hE
  refine x_callV (rc1 := _) (rs1 := _) [.ref r_2, .int (1 : Int32), .int (9 : Int32)] (E.2.2.1 0) hC hP hS hB hl.1 (wX0_law r_1 r_2 (1 : Int32) (9 : Int32) r_3 h_3) (xC.c0 hC) (xw_get E _ (k := 0) (by decide)) (cwV 3 hts lkX0_141 rfl rfl rfl cdX0_law ⟨Nat.le_of_ble_eq_true rfl, Nat.le_of_ble_eq_true rfl⟩) rfl rfl (lv_room (Nat.le_of_ble_eq_true rfl)) ⟨Nat.le_of_eq (Nat.zero_add _), Nat.le_of_eq (Nat.zero_add _)⟩ dX0_paintsOf_14 (fun H locs cells slots hP hS hB => ?_)
  show W p l e _ s m args below meth c H locs cells slots _ (F0 m _ ls (.int r_3 :: []))
  obtain rfl := Option.some.inj hE
  exact x_iret hC hP hS hB dX0_paintsOf_17
noncomputable def fX0_thickens_9_B2 (k : Nat) (V : XV)  (a : Int32 × XS) : Option ((Int32 × XS) ⊕ XS) := if (30 : Int32) ≤ a.1 then (some (.inr a.2)) else (if ib ((2 : Int32) + a.1) 190 then none else (if (a.2.2.1 9 ((2 : Int32) + a.1).toNatClampNeg) = (1 : Int32) then (if ib ((32 : Int32) + a.1) 190 then none else ((fX0_paintsOf_9 V a.2 a.1).bind fun r_5 => if ib ((32 : Int32) + a.1) 190 then none else (nm (xA r_5.2 9 (upd (r_5.2.2.1 9) ((32 : Int32) + a.1).toNatClampNeg (if ((a.2.2.1 9 ((32 : Int32) + a.1).toNatClampNeg) + r_5.1) < (9 : Int32) then ((a.2.2.1 9 ((32 : Int32) + a.1).toNatClampNeg) + r_5.1) else (9 : Int32)))) fun z_7 => some (.inl ((a.1 + (1 : Int32)), z_7))))) else (some (.inl ((a.1 + (1 : Int32)), a.2)))))
set_option maxHeartbeats 1000000 in
theorem wX0_thickens_9_B2 {p : Program} {l : Launch} {e : Env} {s : State} {m : MethodId} {args : Array Value} {below : List Frame} {meth : Method} {c : Code} {E : XE} {Q : State → Prop} (k : Nat)  (hC : xC E RX0 cX0_thickens 3 none p s m args meth c) (a : Int32 × XS) (y : (Int32 × XS) ⊕ XS) (hE : fX0_thickens_9_B2 k E.2.2.2.2.2  a = some y) (hc : ∀ a : Int32 × XS, y = .inl a → xW p l e rmX0_thickens_9 s m args below meth c E 3 Q 0 0 2 [(0, .ref (E.2.2.1 0)), (1, .ref (E.2.2.1 9)), (2, .int a.1)] [] a.2) (hx1 : ∀ b : XS, y = .inr b → xW p l e rmX0_thickens_9 s m args below meth c E 3 Q 0 0 47 [] [] b) : xW p l e rmX0_thickens_9 s m args below meth c E 3 Q 0 0 2 [(0, .ref (E.2.2.1 0)), (1, .ref (E.2.2.1 9)), (2, .int a.1)] [] a.2 := by
  intro H locs cells slots ls hP hS hB hl
  have hx := hC.1
  have hb := hC.2.1
  have hown := hC.2.2.2.2.2.1
  have hts := hC.2.2.2.2.2.2.1
  unfold fX0_thickens_9_B2 at hE
  refine lv_iload_n hx hb dX0_thickens_2 rfl (lv_at hl 2 rfl) ?_
  refine lv_bipush (v := 30) hx hb dX0_thickens_3 (by decide) ?_
  refine lv_icmp_ge (tgt := 47) hx hb dX0_thickens_5 (by decide) (fun c_1 => ?_) (fun c_1 => ?_)
  · have hE := ip c_1 hE
    exact hx1 _ (Option.some.inj hE).symm H locs cells slots ls hP hS hB (lv_sub hl [] rfl)
  · have hE := iq c_1 hE
    refine lv_aload_n hx hb dX0_thickens_8 rfl (lv_at hl 1 rfl) ?_
    refine lv_iconst (v := 2) hx hb dX0_thickens_9 (by decide) ?_
    refine lv_iload_n hx hb dX0_thickens_10 rfl (lv_at hl 2 rfl) ?_
    refine lv_iadd hx hb dX0_thickens_11 ?_
    obtain ⟨c_2, hE⟩ := og hE
    refine x_iald hC hP (⟨by decide, rfl, rfl⟩ : xint 9 190) c_2 dX0_thickens_12 ?_
    refine lv_iconst (v := 1) hx hb dX0_thickens_13 (by decide) ?_
    refine lv_icmp_ne (tgt := 41) hx hb dX0_thickens_14 (by decide) (fun c_3 => ?_) (fun c_3 => ?_)
    · have hE := iq c_3 hE
      refine lv_iinc (v := (a.1 + (1 : Int32))) (lv' := [(2, .int (a.1 + (1 : Int32))), (0, .ref (E.2.2.1 0)), (1, .ref (E.2.2.1 9))]) hx hb dX0_thickens_41 hl (k := 2) rfl rfl (Nat.le_of_ble_eq_true rfl) rfl (fun ls hl => ?_)
      refine lv_goto (tgt := 2) hx hb dX0_thickens_44 (by decide) ?_
      exact hc _ (Option.some.inj hE).symm H locs cells slots ls hP hS hB (lv_sub hl [1, 2, 0] rfl)
    · have hE := ip c_3 hE
      refine lv_aload_n hx hb dX0_thickens_17 rfl (lv_at hl 1 rfl) ?_
      refine lv_bipush (v := 32) hx hb dX0_thickens_18 (by decide) ?_
      refine lv_iload_n hx hb dX0_thickens_20 rfl (lv_at hl 2 rfl) ?_
      refine lv_iadd hx hb dX0_thickens_21 ?_
      refine lv_bipush (v := 9) hx hb dX0_thickens_22 (by decide) ?_
      refine lv_aload_n hx hb dX0_thickens_24 rfl (lv_at hl 1 rfl) ?_
      refine lv_bipush (v := 32) hx hb dX0_thickens_25 (by decide) ?_
      refine lv_iload_n hx hb dX0_thickens_27 rfl (lv_at hl 2 rfl) ?_
      refine lv_iadd hx hb dX0_thickens_28 ?_
      obtain ⟨c_4, hE⟩ := og hE
      refine x_iald hC hP (⟨by decide, rfl, rfl⟩ : xint 9 190) c_4 dX0_thickens_29 ?_
      refine lv_aload_n hx hb dX0_thickens_30 rfl (lv_at hl 0 rfl) ?_
      refine lv_aload_n hx hb dX0_thickens_31 rfl (lv_at hl 1 rfl) ?_
      refine lv_iload_n hx hb dX0_thickens_32 rfl (lv_at hl 2 rfl) ?_
      obtain ⟨r_5, h_5, hE⟩ := ob hE
      refine x_callV (rc1 := _) (rs1 := _) [.ref (E.2.2.1 9), .int a.1] (E.2.2.1 0) hC hP hS hB hl.1 (wX0_paintsOf_9 a.2 a.1 r_5 h_5) (xC.c0 hC) (xw_get E _ (k := 0) (by decide)) (cwV 2 hts lkX0_186 rfl rfl rfl cdX0_paintsOf ⟨Nat.le_of_ble_eq_true rfl, Nat.le_of_ble_eq_true rfl⟩) rfl rfl (lv_room (Nat.le_of_ble_eq_true rfl)) ⟨Nat.le_of_eq (Nat.zero_add _), Nat.le_of_eq (Nat.zero_add _)⟩ dX0_thickens_33 (fun H locs cells slots hP hS hB => ?_)
      show W p l e _ s m args below meth c H locs cells slots _ (F0 m _ ls (.int r_5.1 :: .int (a.2.2.1 9 ((32 : Int32) + a.1).toNatClampNeg) :: .int (9 : Int32) :: .int ((32 : Int32) + a.1) :: .ref (E.2.2.1 9) :: []))
      refine lv_iadd hx hb dX0_thickens_36 ?_
      refine va_mmin hx hb (hC.2.2.2.2.1.trans hl.1.symm) hown (hts _ q1056) (hts _ q455) (hts _ q135) (hts _ q456) (Nat.le_of_ble_eq_true rfl) (Nat.le_of_ble_eq_true rfl) (Nat.le_trans (Nat.le_add_right _ _) hB.1) (Nat.le_trans (Nat.le_add_right _ _) hB.2) dX0_thickens_37 ?_
      obtain ⟨c_7, hE⟩ := og hE
      obtain ⟨z_7, ez_7, hE⟩ := on hE
      refine x_iast hC hP hS (⟨by decide, rfl, rfl⟩ : xint 9 190) c_7 ez_7 dX0_thickens_40 (fun H locs hP hS => ?_)
      refine lv_iinc (v := (a.1 + (1 : Int32))) (lv' := [(2, .int (a.1 + (1 : Int32))), (0, .ref (E.2.2.1 0)), (1, .ref (E.2.2.1 9))]) hx hb dX0_thickens_41 hl (k := 2) rfl rfl (Nat.le_of_ble_eq_true rfl) rfl (fun ls hl => ?_)
      refine lv_goto (tgt := 2) hx hb dX0_thickens_44 (by decide) ?_
      exact hc _ (Option.some.inj hE).symm H locs cells slots ls hP hS hB (lv_sub hl [1, 2, 0] rfl)
noncomputable def fX0_thickens_9 (k : Nat) (V : XV) (z : XS)  : Option XS := (lpo (fX0_thickens_9_B2 k V ) k ((0 : Int32), z)).bind fun x_8 => some x_8
set_option maxHeartbeats 1000000 in
theorem wX0_thickens_9 {l : Launch} {E : XE} (k : Nat) (z : XS)  (y : XS) (hE : fX0_thickens_9 k E.2.2.2.2.2 z  = some y) : xM l yX0_thickens (ws_ yX0_thickens cX0_thickens 3 none) rmX0_thickens_9 E z [.ref (E.2.2.1 0), .ref (E.2.2.1 9)] none y := by
  refine x_met (own := RX0) (by decide) rfl (Nat.le_of_ble_eq_true rfl) (fun p e s m args below meth c hC => ?_)
  intro H locs cells slots ls hP hS hB hl
  have hx := hC.1
  have hb := hC.2.1
  have hown := hC.2.2.2.2.2.1
  have hts := hC.2.2.2.2.2.2.1
  have hl : lv_has ls 3 [(0, .ref (E.2.2.1 0)), (1, .ref (E.2.2.1 9))] := hl
  unfold fX0_thickens_9 at hE
  refine lv_iconst (v := 0) hx hb dX0_thickens_0 (by decide) ?_
  refine lv_istore_n (lv' := [(2, .int (0 : Int32)), (0, .ref (E.2.2.1 0)), (1, .ref (E.2.2.1 9))]) hx hb dX0_thickens_1 rfl hl (Nat.le_of_ble_eq_true rfl) rfl (fun ls hl => ?_)
  obtain ⟨x_8, h_8, hE⟩ := ob hE
  refine lpo_walk (fun p_8 : Int32 × XS => xW p l e rmX0_thickens_9 s m args below meth c E 3 (xQ E rmX0_thickens_9 below args s none y) 0 0 2 [(0, .ref (E.2.2.1 0)), (1, .ref (E.2.2.1 9)), (2, .int p_8.1)] [] p_8.2) (fun q_8 : XS => xW p l e rmX0_thickens_9 s m args below meth c E 3 (xQ E rmX0_thickens_9 below args s none y) 0 0 47 [] [] q_8) (fun a_8 y_8 hB_8 hc_8 hx_8 => wX0_thickens_9_B2 k  hC a_8 y_8 hB_8 hc_8 hx_8) _ _ x_8 h_8 ?_ H locs cells slots ls hP hS hB (lv_sub hl [1, 2, 0] rfl)
  intro H locs cells slots ls hP hS hB hl
  obtain rfl := Option.some.inj hE
  exact x_vret hC hP hS hB dX0_thickens_47
noncomputable def fX0_passes_9_T4 (k : Nat) (V : XV)  (a : Int32 × Int32 × XS) : Option (Option (Int32 × XS)) := if (a.2.2.2.1 8 (0 : Int32).toNatClampNeg) ≤ a.2.1 then (some (some (a.1, a.2.2))) else (some none)
set_option maxHeartbeats 1000000 in
theorem wX0_passes_9_T4 {p : Program} {l : Launch} {e : Env} {s : State} {m : MethodId} {args : Array Value} {below : List Frame} {meth : Method} {c : Code} {E : XE} {Q : State → Prop} (k : Nat)  (rcv rsv rec res : Nat) (hr : rec ≤ rcv ∧ res ≤ rsv) (hC : xC E RX0 cX0_passes 5 (some .int) p s m args meth c) (a : Int32 × Int32 × XS) (y : Option (Int32 × XS)) (hE : fX0_passes_9_T4 k E.2.2.2.2.2  a = some y) (hc : y = none → xW p l e rmX0_passes_9 s m args below meth c E 5 Q rcv rsv 17 [(0, .ref (E.2.2.1 0)), (1, .ref (E.2.2.1 9)), (2, .int a.1), (3, .int a.2.1)] [] a.2.2) (hx1 : ∀ b : Int32 × XS, y = some b → xW p l e rmX0_passes_9 s m args below meth c E 5 Q rec res 53 [(0, .ref (E.2.2.1 0)), (1, .ref (E.2.2.1 9)), (2, .int b.1)] [] b.2) : xW p l e rmX0_passes_9 s m args below meth c E 5 Q rcv rsv 4 [(0, .ref (E.2.2.1 0)), (1, .ref (E.2.2.1 9)), (2, .int a.1), (3, .int a.2.1)] [] a.2.2 := by
  intro H locs cells slots ls hP hS hB hl
  have hx := hC.1
  have hb := hC.2.1
  have hown := hC.2.2.2.2.2.1
  have hts := hC.2.2.2.2.2.2.1
  unfold fX0_passes_9_T4 at hE
  refine lv_iload_n hx hb dX0_passes_4 rfl (lv_at hl 3 rfl) ?_
  refine lv_aload_n hx hb dX0_passes_5 rfl (lv_at hl 0 rfl) ?_
  refine gX_21 hC hP dX0_passes_6 ?_
  refine gN_62_1 hC hP dX0_passes_9 ?_
  refine lv_iconst (v := 0) hx hb dX0_passes_12 (by decide) ?_
  refine x_iald hC hP (⟨by decide, rfl, rfl⟩ : xint 8 6) (i := (0 : Int32)) (by decide) dX0_passes_13 ?_
  refine lv_icmp_ge (tgt := 53) hx hb dX0_passes_14 (by decide) (fun c_2 => ?_) (fun c_2 => ?_)
  · have hE := ip c_2 hE
    exact hx1 _ (Option.some.inj hE).symm H locs cells slots ls hP hS (hBr hB hr) (lv_sub hl [0, 1, 2] rfl)
  · have hE := iq c_2 hE
    exact hc (Option.some.inj hE).symm H locs cells slots ls hP hS hB hl
noncomputable def fX0_passes_9_B4 (k : Nat) (V : XV)  (a : Int32 × Int32 × XS) : Option ((Int32 × Int32 × XS) ⊕ (Int32 × XS)) := if ib ((62 : Int32) + a.2.1) 190 then none else (if (a.2.2.2.1 9 ((62 : Int32) + a.2.1).toNatClampNeg) = (-1 : Int32) then ((fX0_drawn_9 a.2.2 (30 : Int32)).bind fun r_5 => (fX0_runs_9 k V r_5.2 a.2.1 r_5.1).bind fun r_6 => some (.inl ((a.1 + (1 : Int32)), (a.2.1 + (1 : Int32)), r_6.2))) else (some (.inl (a.1, (a.2.1 + (1 : Int32)), a.2.2))))
set_option maxHeartbeats 1000000 in
theorem wX0_passes_9_B4 {p : Program} {l : Launch} {e : Env} {s : State} {m : MethodId} {args : Array Value} {below : List Frame} {meth : Method} {c : Code} {E : XE} {Q : State → Prop} (k : Nat) (nc ns : Nat)  (rec res : Nat) (hr : rec ≤ nc ∧ res ≤ ns) (hC : xC E RX0 cX0_passes 5 (some .int) p s m args meth c) (a : Int32 × Int32 × XS) (y : (Int32 × Int32 × XS) ⊕ (Int32 × XS)) (hE : fX0_passes_9_B4 k E.2.2.2.2.2  a = some y) (hc : ∀ a : Int32 × Int32 × XS, y = .inl a → xW p l e rmX0_passes_9 s m args below meth c E 5 Q (0 + nc) (0 + ns) 4 [(0, .ref (E.2.2.1 0)), (1, .ref (E.2.2.1 9)), (2, .int a.1), (3, .int a.2.1)] [] a.2.2) (hx1 : ∀ b : Int32 × XS, y = .inr b → xW p l e rmX0_passes_9 s m args below meth c E 5 Q rec res 53 [(0, .ref (E.2.2.1 0)), (1, .ref (E.2.2.1 9)), (2, .int b.1)] [] b.2) : xW p l e rmX0_passes_9 s m args below meth c E 5 Q (1 + nc) (4 + ns) 17 [(0, .ref (E.2.2.1 0)), (1, .ref (E.2.2.1 9)), (2, .int a.1), (3, .int a.2.1)] [] a.2.2 := by
  intro H locs cells slots ls hP hS hB hl
  have hx := hC.1
  have hb := hC.2.1
  have hown := hC.2.2.2.2.2.1
  have hts := hC.2.2.2.2.2.2.1
  unfold fX0_passes_9_B4 at hE
  refine lv_aload_n hx hb dX0_passes_17 rfl (lv_at hl 1 rfl) ?_
  refine lv_bipush (v := 62) hx hb dX0_passes_18 (by decide) ?_
  refine lv_iload_n hx hb dX0_passes_20 rfl (lv_at hl 3 rfl) ?_
  refine lv_iadd hx hb dX0_passes_21 ?_
  obtain ⟨c_3, hE⟩ := og hE
  refine x_iald hC hP (⟨by decide, rfl, rfl⟩ : xint 9 190) c_3 dX0_passes_22 ?_
  refine lv_iconst (v := -1) hx hb dX0_passes_23 (by decide) ?_
  refine lv_icmp_eq (tgt := 30) hx hb dX0_passes_24 (by decide) (fun c_4 => ?_) (fun c_4 => ?_)
  · have hE := ip c_4 hE
    refine lv_aload_n hx hb dX0_passes_30 rfl (lv_at hl 0 rfl) ?_
    refine lv_aload_n hx hb dX0_passes_31 rfl (lv_at hl 1 rfl) ?_
    refine lv_iload_n hx hb dX0_passes_32 rfl (lv_at hl 3 rfl) ?_
    refine lv_aload_n hx hb dX0_passes_33 rfl (lv_at hl 1 rfl) ?_
    refine lv_bipush (v := 30) hx hb dX0_passes_34 (by decide) ?_
    obtain ⟨r_5, h_5, hE⟩ := ob hE
    refine x_callS (rc1 := _) (rs1 := _) [.ref (E.2.2.1 9), .int (30 : Int32)] hC hP hS hB hl.1 (wX0_drawn_9 a.2.2 (30 : Int32) r_5 h_5) (va_cwS 2 hts lkX0_147 rfl rfl rfl cdX0_drawn ⟨Nat.le_of_ble_eq_true rfl, Nat.le_of_ble_eq_true rfl⟩) rfl rfl (lv_room (Nat.le_of_ble_eq_true rfl)) ⟨Nat.le_of_eq (Nat.zero_add _), Nat.le_of_eq (Nat.zero_add _)⟩ dX0_passes_36 (fun H locs cells slots hP hS hB => ?_)
    show W p l e _ s m args below meth c H locs cells slots _ (F0 m _ ls (.int r_5.1 :: .int a.2.1 :: .ref (E.2.2.1 9) :: .ref (E.2.2.1 0) :: []))
    obtain ⟨r_6, h_6, hE⟩ := ob hE
    refine x_callV (rc1 := 0 + nc) (rs1 := 0 + ns) [.ref (E.2.2.1 9), .int a.2.1, .int r_5.1] (E.2.2.1 0) hC hP hS hB hl.1 (wX0_runs_9 k r_5.2 a.2.1 r_5.1 r_6 h_6) (xC.c0 hC) (xw_get E _ (k := 0) (by decide)) (cwV 3 hts lkX0_168 rfl rfl rfl cdX0_runs ⟨Nat.le_of_ble_eq_true rfl, Nat.le_of_ble_eq_true rfl⟩) rfl rfl (lv_room (Nat.le_of_ble_eq_true rfl)) ⟨hrm rfl, hrm rfl⟩ dX0_passes_39 (fun H locs cells slots hP hS hB => ?_)
    show W p l e _ s m args below meth c H locs cells slots _ (F0 m _ ls (.int r_6.1 :: []))
    refine lv_istore (lv' := [(4, .int r_6.1), (0, .ref (E.2.2.1 0)), (1, .ref (E.2.2.1 9)), (2, .int a.1), (3, .int a.2.1)]) hx hb dX0_passes_42 hl (Nat.le_of_ble_eq_true rfl) rfl (fun ls hl => ?_)
    refine lv_iinc (v := (a.1 + (1 : Int32))) (lv' := [(2, .int (a.1 + (1 : Int32))), (4, .int r_6.1), (0, .ref (E.2.2.1 0)), (1, .ref (E.2.2.1 9)), (3, .int a.2.1)]) hx hb dX0_passes_44 hl (k := 3) rfl rfl (Nat.le_of_ble_eq_true rfl) rfl (fun ls hl => ?_)
    refine lv_iinc (v := (a.2.1 + (1 : Int32))) (lv' := [(3, .int (a.2.1 + (1 : Int32))), (2, .int (a.1 + (1 : Int32))), (4, .int r_6.1), (0, .ref (E.2.2.1 0)), (1, .ref (E.2.2.1 9))]) hx hb dX0_passes_47 hl (k := 4) rfl rfl (Nat.le_of_ble_eq_true rfl) rfl (fun ls hl => ?_)
    refine lv_goto (tgt := 4) hx hb dX0_passes_50 (by decide) ?_
    exact hc _ (Option.some.inj hE).symm H locs cells slots ls hP hS hB (lv_sub hl [3, 4, 1, 0] rfl)
  · have hE := iq c_4 hE
    refine lv_goto (tgt := 47) hx hb dX0_passes_27 (by decide) ?_
    refine lv_iinc (v := (a.2.1 + (1 : Int32))) (lv' := [(3, .int (a.2.1 + (1 : Int32))), (0, .ref (E.2.2.1 0)), (1, .ref (E.2.2.1 9)), (2, .int a.1)]) hx hb dX0_passes_47 hl (k := 3) rfl rfl (Nat.le_of_ble_eq_true rfl) rfl (fun ls hl => ?_)
    refine lv_goto (tgt := 4) hx hb dX0_passes_50 (by decide) ?_
    exact hc _ (Option.some.inj hE).symm H locs cells slots ls hP hS (hBw hB (by decide) (by decide)) (lv_sub hl [1, 2, 3, 0] rfl)
noncomputable def fX0_passes_9 (k : Nat) (V : XV) (z : XS)  : Option (Int32 × XS) := (lpw (fX0_passes_9_T4 k V ) (fX0_passes_9_B4 k V ) 7 ((0 : Int32), (0 : Int32), z)).bind fun x_7 => (fX0_thickens_9 k V x_7.2 ).bind fun r_8 => nm (xA r_8 9 (upd (r_8.2.1 9) (0 : Int32).toNatClampNeg ((r_8.2.1 9 (0 : Int32).toNatClampNeg) + (1 : Int32)))) fun z_10 => some (x_7.1, z_10)
set_option maxHeartbeats 1000000 in
theorem wX0_passes_9 {l : Launch} {E : XE} (k : Nat) (z : XS)  (y : Int32 × XS) (hE : fX0_passes_9 k E.2.2.2.2.2 z  = some y) : xM l yX0_passes (ws_ yX0_passes cX0_passes 5 (some .int)) rmX0_passes_9 E z [.ref (E.2.2.1 0), .ref (E.2.2.1 9)] (some (.int y.1)) y.2 := by
  refine x_met (own := RX0) (by decide) rfl (Nat.le_of_ble_eq_true rfl) (fun p e s m args below meth c hC => ?_)
  intro H locs cells slots ls hP hS hB hl
  have hx := hC.1
  have hb := hC.2.1
  have hown := hC.2.2.2.2.2.1
  have hts := hC.2.2.2.2.2.2.1
  have hl : lv_has ls 5 [(0, .ref (E.2.2.1 0)), (1, .ref (E.2.2.1 9))] := hl
  unfold fX0_passes_9 at hE
  refine lv_iconst (v := 0) hx hb dX0_passes_0 (by decide) ?_
  refine lv_istore_n (lv' := [(2, .int (0 : Int32)), (0, .ref (E.2.2.1 0)), (1, .ref (E.2.2.1 9))]) hx hb dX0_passes_1 rfl hl (Nat.le_of_ble_eq_true rfl) rfl (fun ls hl => ?_)
  refine lv_iconst (v := 0) hx hb dX0_passes_2 (by decide) ?_
  refine lv_istore_n (lv' := [(3, .int (0 : Int32)), (2, .int (0 : Int32)), (0, .ref (E.2.2.1 0)), (1, .ref (E.2.2.1 9))]) hx hb dX0_passes_3 rfl hl (Nat.le_of_ble_eq_true rfl) rfl (fun ls hl => ?_)
  obtain ⟨x_7, h_7, hE⟩ := ob hE
  refine lpw_walk (α := Int32 × Int32 × XS) (β := (Int32 × XS)) (fun n_7 p_7 => xW p l e rmX0_passes_9 s m args below meth c E 5 (xQ E rmX0_passes_9 below args s (some (.int y.1)) y.2) (n_7 * 1 + 0) (n_7 * 4 + 0) 4 [(0, .ref (E.2.2.1 0)), (1, .ref (E.2.2.1 9)), (2, .int p_7.1), (3, .int p_7.2.1)] [] p_7.2.2) (fun n_7 p_7 => xW p l e rmX0_passes_9 s m args below meth c E 5 (xQ E rmX0_passes_9 below args s (some (.int y.1)) y.2) (1 + (n_7 * 1 + 0)) (4 + (n_7 * 4 + 0)) 17 [(0, .ref (E.2.2.1 0)), (1, .ref (E.2.2.1 9)), (2, .int p_7.1), (3, .int p_7.2.1)] [] p_7.2.2) (fun q_7 => xW p l e rmX0_passes_9 s m args below meth c E 5 (xQ E rmX0_passes_9 below args s (some (.int y.1)) y.2) 0 0 53 [(0, .ref (E.2.2.1 0)), (1, .ref (E.2.2.1 9)), (2, .int q_7.1)] [] q_7.2) (fun n_7 a_7 y_7 hB_7 hc_7 hx_7 => wX0_passes_9_T4 k  (n_7 * 1 + 0) (n_7 * 4 + 0) 0 0 ⟨Nat.le_add_left _ _, Nat.le_add_left _ _⟩ hC a_7 y_7 hB_7 (fun e_7 => ?_) hx_7) (fun n_7 a_7 y_7 hB_7 hc_7 hx_7 => wX0_passes_9_B4 k (n_7 * 1 + 0) (n_7 * 4 + 0)  0 0 ⟨Nat.le_add_left _ _, Nat.le_add_left _ _⟩ hC a_7 y_7 hB_7 (fun b_7 e_7 => by have h9 := hc_7 b_7 e_7; rw [Nat.zero_add (n_7 * 1 + 0), Nat.zero_add (n_7 * 4 + 0)]; exact h9) hx_7) 7 _ x_7 h_7 ?_ H locs cells slots ls hP hS ⟨by have := hB.1; omega, by have := hB.2; omega⟩ (lv_sub hl [2, 3, 1, 0] rfl)
  · obtain ⟨h1, h2⟩ := hc_7 e_7
    have e1 : n_7 * 1 + 0 = 1 + ((n_7 - 1) * 1 + 0) := by omega
    have e2 : n_7 * 4 + 0 = 4 + ((n_7 - 1) * 4 + 0) := by omega
    rw [e1, e2]
    exact h2
  intro H locs cells slots ls hP hS hB hl
  refine lv_aload_n hx hb dX0_passes_53 rfl (lv_at hl 0 rfl) ?_
  refine lv_aload_n hx hb dX0_passes_54 rfl (lv_at hl 1 rfl) ?_
  obtain ⟨r_8, h_8, hE⟩ := ob hE
  refine x_callV (rc1 := _) (rs1 := _) [.ref (E.2.2.1 9)] (E.2.2.1 0) hC hP hS hB hl.1 (wX0_thickens_9 k x_7.2  r_8 h_8) (xC.c0 hC) (xw_get E _ (k := 0) (by decide)) (cwV 1 hts lkX0_192 rfl rfl rfl cdX0_thickens ⟨Nat.le_of_ble_eq_true rfl, Nat.le_of_ble_eq_true rfl⟩) rfl rfl (lv_room (Nat.le_of_ble_eq_true rfl)) ⟨Nat.le_of_eq (Nat.zero_add _), Nat.le_of_eq (Nat.zero_add _)⟩ dX0_passes_55 (fun H locs cells slots hP hS hB => ?_)
  show W p l e _ s m args below meth c H locs cells slots _ (F0 m _ ls ([]))
  refine lv_aload_n hx hb dX0_passes_58 rfl (lv_at hl 1 rfl) ?_
  refine lv_iconst (v := 0) hx hb dX0_passes_59 (by decide) ?_
  refine lv_dup2_11 hx hb dX0_passes_60 rfl rfl ?_
  refine x_iald hC hP (⟨by decide, rfl, rfl⟩ : xint 9 190) (i := (0 : Int32)) (by decide) dX0_passes_61 ?_
  refine lv_iconst (v := 1) hx hb dX0_passes_62 (by decide) ?_
  refine lv_iadd hx hb dX0_passes_63 ?_
  obtain ⟨z_10, ez_10, hE⟩ := on hE
  refine x_iast hC hP hS (⟨by decide, rfl, rfl⟩ : xint 9 190) (i := (0 : Int32)) (by decide) ez_10 dX0_passes_64 (fun H locs hP hS => ?_)
  refine lv_iload_n hx hb dX0_passes_65 rfl (lv_at hl 2 rfl) ?_
  obtain rfl := Option.some.inj hE
  exact x_iret hC hP hS hB dX0_passes_66
noncomputable def fX0_year_60_T33 (k : Nat) (V : XV) (v1 : Int32) (a : Int32 × Int32 × XS) : Option (Option (Int32 × XS)) := if v1 ≤ a.2.1 then (some (some (a.1, a.2.2))) else (some none)
set_option maxHeartbeats 1000000 in
theorem wX0_year_60_T33 {p : Program} {l : Launch} {e : Env} {s : State} {m : MethodId} {args : Array Value} {below : List Frame} {meth : Method} {c : Code} {E : XE} {Q : State → Prop} (k : Nat) (v1 : Int32) (rcv rsv rec res : Nat) (hr : rec ≤ rcv ∧ res ≤ rsv) (hC : xC E RX0 cX0_year 4 (some .int) p s m args meth c) (a : Int32 × Int32 × XS) (y : Option (Int32 × XS)) (hE : fX0_year_60_T33 k E.2.2.2.2.2 v1 a = some y) (hc : y = none → xW p l e rmX0_year_60 s m args below meth c E 4 Q rcv rsv 38 [(0, .ref (E.2.2.1 0)), (1, .int v1), (2, .int a.1), (3, .int a.2.1)] [] a.2.2) (hx1 : ∀ b : Int32 × XS, y = some b → xW p l e rmX0_year_60 s m args below meth c E 4 Q rec res 65 [(2, .int b.1)] [] b.2) : xW p l e rmX0_year_60 s m args below meth c E 4 Q rcv rsv 33 [(0, .ref (E.2.2.1 0)), (1, .int v1), (2, .int a.1), (3, .int a.2.1)] [] a.2.2 := by
  intro H locs cells slots ls hP hS hB hl
  have hx := hC.1
  have hb := hC.2.1
  have hown := hC.2.2.2.2.2.1
  have hts := hC.2.2.2.2.2.2.1
  unfold fX0_year_60_T33 at hE
  refine lv_iload_n hx hb dX0_year_33 rfl (lv_at hl 3 rfl) ?_
  refine lv_iload_n hx hb dX0_year_34 rfl (lv_at hl 1 rfl) ?_
  refine lv_icmp_ge (tgt := 65) hx hb dX0_year_35 (by decide) (fun c_5 => ?_) (fun c_5 => ?_)
  · have hE := ip c_5 hE
    exact hx1 _ (Option.some.inj hE).symm H locs cells slots ls hP hS (hBr hB hr) (lv_sub hl [2] rfl)
  · have hE := iq c_5 hE
    exact hc (Option.some.inj hE).symm H locs cells slots ls hP hS hB hl
noncomputable def fX0_year_60_B33 (k : Nat) (V : XV) (v1 : Int32) (a : Int32 × Int32 × XS) : Option ((Int32 × Int32 × XS) ⊕ (Int32 × XS)) := (fX1_keeps k a.2.2 ).bind fun r_6 => (fX0_passes_9 k V r_6 ).bind fun r_7 => some (.inl ((a.1 + r_7.1), (a.2.1 + (1 : Int32)), r_7.2))
set_option maxHeartbeats 1000000 in
theorem wX0_year_60_B33 {p : Program} {l : Launch} {e : Env} {s : State} {m : MethodId} {args : Array Value} {below : List Frame} {meth : Method} {c : Code} {E : XE} {Q : State → Prop} (k : Nat) (nc ns : Nat) (v1 : Int32) (rec res : Nat) (hr : rec ≤ nc ∧ res ≤ ns) (hC : xC E RX0 cX0_year 4 (some .int) p s m args meth c) (a : Int32 × Int32 × XS) (y : (Int32 × Int32 × XS) ⊕ (Int32 × XS)) (hE : fX0_year_60_B33 k E.2.2.2.2.2 v1 a = some y) (hc : ∀ a : Int32 × Int32 × XS, y = .inl a → xW p l e rmX0_year_60 s m args below meth c E 4 Q (0 + nc) (0 + ns) 33 [(0, .ref (E.2.2.1 0)), (1, .int v1), (2, .int a.1), (3, .int a.2.1)] [] a.2.2) (hx1 : ∀ b : Int32 × XS, y = .inr b → xW p l e rmX0_year_60 s m args below meth c E 4 Q rec res 65 [(2, .int b.1)] [] b.2) : xW p l e rmX0_year_60 s m args below meth c E 4 Q (7 + nc) (28 + ns) 38 [(0, .ref (E.2.2.1 0)), (1, .int v1), (2, .int a.1), (3, .int a.2.1)] [] a.2.2 := by
  intro H locs cells slots ls hP hS hB hl
  have hx := hC.1
  have hb := hC.2.1
  have hown := hC.2.2.2.2.2.1
  have hts := hC.2.2.2.2.2.2.1
  unfold fX0_year_60_B33 at hE
  refine lv_aload_n hx hb dX0_year_38 rfl (lv_at hl 0 rfl) ?_
  refine gX_21 hC hP dX0_year_39 ?_
  obtain ⟨r_6, h_6, hE⟩ := ob hE
  refine x_callV (rc1 := _) (rs1 := _) [] (E.2.2.1 1) hC hP hS hB hl.1 (wX1_keeps k a.2.2  r_6 h_6) (xC.c1 hC) (xw_get E _ (k := 1) (by decide)) (cwV 0 hts lkX0_165 rfl rfl rfl cdX1_keeps ⟨Nat.le_of_ble_eq_true rfl, Nat.le_of_ble_eq_true rfl⟩) rfl rfl (lv_room (Nat.le_of_ble_eq_true rfl)) ⟨Nat.le_of_eq (Nat.zero_add _), Nat.le_of_eq (Nat.zero_add _)⟩ dX0_year_42 (fun H locs cells slots hP hS hB => ?_)
  show W p l e _ s m args below meth c H locs cells slots _ (F0 m _ ls ([]))
  refine lv_iload_n hx hb dX0_year_45 rfl (lv_at hl 2 rfl) ?_
  refine lv_aload_n hx hb dX0_year_46 rfl (lv_at hl 0 rfl) ?_
  refine lv_aload_n hx hb dX0_year_47 rfl (lv_at hl 0 rfl) ?_
  refine gX_21 hC hP dX0_year_48 ?_
  refine gN_65_1 hC hP dX0_year_51 ?_
  obtain ⟨r_7, h_7, hE⟩ := ob hE
  refine x_callV (rc1 := 0 + nc) (rs1 := 0 + ns) [.ref (E.2.2.1 9)] (E.2.2.1 0) hC hP hS hB hl.1 (wX0_passes_9 k r_6  r_7 h_7) (xC.c0 hC) (xw_get E _ (k := 0) (by decide)) (cwV 1 hts lkX0_196 rfl rfl rfl cdX0_passes ⟨Nat.le_of_ble_eq_true rfl, Nat.le_of_ble_eq_true rfl⟩) rfl rfl (lv_room (Nat.le_of_ble_eq_true rfl)) ⟨hrm rfl, hrm rfl⟩ dX0_year_54 (fun H locs cells slots hP hS hB => ?_)
  show W p l e _ s m args below meth c H locs cells slots _ (F0 m _ ls (.int r_7.1 :: .int a.1 :: []))
  refine lv_iadd hx hb dX0_year_57 ?_
  refine lv_istore_n (lv' := [(2, .int (a.1 + r_7.1)), (0, .ref (E.2.2.1 0)), (1, .int v1), (3, .int a.2.1)]) hx hb dX0_year_58 rfl hl (Nat.le_of_ble_eq_true rfl) rfl (fun ls hl => ?_)
  refine lv_iinc (v := (a.2.1 + (1 : Int32))) (lv' := [(3, .int (a.2.1 + (1 : Int32))), (2, .int (a.1 + r_7.1)), (0, .ref (E.2.2.1 0)), (1, .int v1)]) hx hb dX0_year_59 hl (k := 3) rfl rfl (Nat.le_of_ble_eq_true rfl) rfl (fun ls hl => ?_)
  refine lv_goto (tgt := 33) hx hb dX0_year_62 (by decide) ?_
  exact hc _ (Option.some.inj hE).symm H locs cells slots ls hP hS hB (lv_sub hl [2, 3, 1, 0] rfl)
noncomputable def fX0_year_60 (k : Nat) (V : XV) (z : XS) (x1 : Int32) : Option (Int32 × XS) := (fX0_in x1 (1 : Int32) (60 : Int32)).bind fun r_1 => if r_1 = 0 then (some ((-1 : Int32), z)) else (if ((z.2.1 9 (0 : Int32).toNatClampNeg) + x1) ≤ (9999 : Int32) then ((lpw (fX0_year_60_T33 k V x1) (fX0_year_60_B33 k V x1) 60 ((0 : Int32), (0 : Int32), z)).bind fun x_8 => some (x_8.1, x_8.2)) else (some ((-1 : Int32), z)))
set_option maxHeartbeats 1000000 in
theorem wX0_year_60 {l : Launch} {E : XE} (k : Nat) (z : XS) (x1 : Int32) (y : Int32 × XS) (hE : fX0_year_60 k E.2.2.2.2.2 z x1 = some y) : xM l yX0_year (ws_ yX0_year cX0_year 4 (some .int)) rmX0_year_60 E z [.ref (E.2.2.1 0), .int x1] (some (.int y.1)) y.2 := by
  refine x_met (own := RX0) (by decide) rfl (Nat.le_of_ble_eq_true rfl) (fun p e s m args below meth c hC => ?_)
  intro H locs cells slots ls hP hS hB hl
  have hx := hC.1
  have hb := hC.2.1
  have hown := hC.2.2.2.2.2.1
  have hts := hC.2.2.2.2.2.2.1
  have hl : lv_has ls 4 [(0, .ref (E.2.2.1 0)), (1, .int x1)] := hl
  unfold fX0_year_60 at hE
  refine lv_iload_n hx hb dX0_year_0 rfl (lv_at hl 1 rfl) ?_
  refine lv_iconst (v := 1) hx hb dX0_year_1 (by decide) ?_
  refine lv_bipush (v := 60) hx hb dX0_year_2 (by decide) ?_
  obtain ⟨r_1, h_1, hE⟩ := ob hE
  refine s_calli [.int x1, .int (1 : Int32), .int (60 : Int32)] hC.sC hl.1 (wX0_in x1 (1 : Int32) (60 : Int32) r_1 h_1) (va_cwS 3 hts lkX0_58 rfl rfl rfl cdX0_in ⟨Nat.le_of_ble_eq_true rfl, Nat.le_of_ble_eq_true rfl⟩) rfl rfl (lv_room (Nat.le_of_ble_eq_true rfl)) (hB0 hB) dX0_year_4 ?_
  refine lv_if_eq (tgt := 27) hx hb dX0_year_7 (by decide) (fun c_2 => ?_) (fun c_2 => ?_)
  · have hE := ip c_2 hE
    refine lv_iconst (v := -1) hx hb dX0_year_27 (by decide) ?_
    obtain rfl := Option.some.inj hE
    exact x_iret hC hP hS hB dX0_year_28
  · have hE := iq c_2 hE
    refine lv_aload_n hx hb dX0_year_10 rfl (lv_at hl 0 rfl) ?_
    refine gX_21 hC hP dX0_year_11 ?_
    refine gN_65_1 hC hP dX0_year_14 ?_
    refine lv_iconst (v := 0) hx hb dX0_year_17 (by decide) ?_
    refine x_iald hC hP (⟨by decide, rfl, rfl⟩ : xint 9 190) (i := (0 : Int32)) (by decide) dX0_year_18 ?_
    refine lv_iload_n hx hb dX0_year_19 rfl (lv_at hl 1 rfl) ?_
    refine lv_iadd hx hb dX0_year_20 ?_
    refine lv_sipush (v := 9999) hx hb dX0_year_21 (by decide) ?_
    refine lv_icmp_le (tgt := 29) hx hb dX0_year_24 (by decide) (fun c_4 => ?_) (fun c_4 => ?_)
    · have hE := ip c_4 hE
      refine lv_iconst (v := 0) hx hb dX0_year_29 (by decide) ?_
      refine lv_istore_n (lv' := [(2, .int (0 : Int32)), (0, .ref (E.2.2.1 0)), (1, .int x1)]) hx hb dX0_year_30 rfl hl (Nat.le_of_ble_eq_true rfl) rfl (fun ls hl => ?_)
      refine lv_iconst (v := 0) hx hb dX0_year_31 (by decide) ?_
      refine lv_istore_n (lv' := [(3, .int (0 : Int32)), (2, .int (0 : Int32)), (0, .ref (E.2.2.1 0)), (1, .int x1)]) hx hb dX0_year_32 rfl hl (Nat.le_of_ble_eq_true rfl) rfl (fun ls hl => ?_)
      obtain ⟨x_8, h_8, hE⟩ := ob hE
      refine lpw_walk (α := Int32 × Int32 × XS) (β := (Int32 × XS)) (fun n_8 p_8 => xW p l e rmX0_year_60 s m args below meth c E 4 (xQ E rmX0_year_60 below args s (some (.int y.1)) y.2) (n_8 * 7 + 0) (n_8 * 28 + 0) 33 [(0, .ref (E.2.2.1 0)), (1, .int x1), (2, .int p_8.1), (3, .int p_8.2.1)] [] p_8.2.2) (fun n_8 p_8 => xW p l e rmX0_year_60 s m args below meth c E 4 (xQ E rmX0_year_60 below args s (some (.int y.1)) y.2) (7 + (n_8 * 7 + 0)) (28 + (n_8 * 28 + 0)) 38 [(0, .ref (E.2.2.1 0)), (1, .int x1), (2, .int p_8.1), (3, .int p_8.2.1)] [] p_8.2.2) (fun q_8 => xW p l e rmX0_year_60 s m args below meth c E 4 (xQ E rmX0_year_60 below args s (some (.int y.1)) y.2) 0 0 65 [(2, .int q_8.1)] [] q_8.2) (fun n_8 a_8 y_8 hB_8 hc_8 hx_8 => wX0_year_60_T33 k x1 (n_8 * 7 + 0) (n_8 * 28 + 0) 0 0 ⟨Nat.le_add_left _ _, Nat.le_add_left _ _⟩ hC a_8 y_8 hB_8 (fun e_8 => ?_) hx_8) (fun n_8 a_8 y_8 hB_8 hc_8 hx_8 => wX0_year_60_B33 k (n_8 * 7 + 0) (n_8 * 28 + 0) x1 0 0 ⟨Nat.le_add_left _ _, Nat.le_add_left _ _⟩ hC a_8 y_8 hB_8 (fun b_8 e_8 => by have h9 := hc_8 b_8 e_8; rw [Nat.zero_add (n_8 * 7 + 0), Nat.zero_add (n_8 * 28 + 0)]; exact h9) hx_8) 60 _ x_8 h_8 ?_ H locs cells slots ls hP hS ⟨by have := hB.1; omega, by have := hB.2; omega⟩ (lv_sub hl [2, 3, 1, 0] rfl)
      · obtain ⟨h1, h2⟩ := hc_8 e_8
        have e1 : n_8 * 7 + 0 = 7 + ((n_8 - 1) * 7 + 0) := by omega
        have e2 : n_8 * 28 + 0 = 28 + ((n_8 - 1) * 28 + 0) := by omega
        rw [e1, e2]
        exact h2
      intro H locs cells slots ls hP hS hB hl
      refine lv_iload_n hx hb dX0_year_65 rfl (lv_at hl 0 rfl) ?_
      obtain rfl := Option.some.inj hE
      exact x_iret hC hP hS hB dX0_year_66
    · have hE := iq c_4 hE
      refine lv_iconst (v := -1) hx hb dX0_year_27 (by decide) ?_
      obtain rfl := Option.some.inj hE
      exact x_iret hC hP hS hB dX0_year_28
noncomputable def fX0_year_1_T33 (k : Nat) (V : XV) (v1 : Int32) (a : Int32 × Int32 × XS) : Option (Option (Int32 × XS)) := if v1 ≤ a.2.1 then (some (some (a.1, a.2.2))) else (some none)
set_option maxHeartbeats 1000000 in
theorem wX0_year_1_T33 {p : Program} {l : Launch} {e : Env} {s : State} {m : MethodId} {args : Array Value} {below : List Frame} {meth : Method} {c : Code} {E : XE} {Q : State → Prop} (k : Nat) (v1 : Int32) (rcv rsv rec res : Nat) (hr : rec ≤ rcv ∧ res ≤ rsv) (hC : xC E RX0 cX0_year 4 (some .int) p s m args meth c) (a : Int32 × Int32 × XS) (y : Option (Int32 × XS)) (hE : fX0_year_1_T33 k E.2.2.2.2.2 v1 a = some y) (hc : y = none → xW p l e rmX0_year_1 s m args below meth c E 4 Q rcv rsv 38 [(0, .ref (E.2.2.1 0)), (1, .int v1), (2, .int a.1), (3, .int a.2.1)] [] a.2.2) (hx1 : ∀ b : Int32 × XS, y = some b → xW p l e rmX0_year_1 s m args below meth c E 4 Q rec res 65 [(2, .int b.1)] [] b.2) : xW p l e rmX0_year_1 s m args below meth c E 4 Q rcv rsv 33 [(0, .ref (E.2.2.1 0)), (1, .int v1), (2, .int a.1), (3, .int a.2.1)] [] a.2.2 := by
  intro H locs cells slots ls hP hS hB hl
  have hx := hC.1
  have hb := hC.2.1
  have hown := hC.2.2.2.2.2.1
  have hts := hC.2.2.2.2.2.2.1
  unfold fX0_year_1_T33 at hE
  refine lv_iload_n hx hb dX0_year_33 rfl (lv_at hl 3 rfl) ?_
  refine lv_iload_n hx hb dX0_year_34 rfl (lv_at hl 1 rfl) ?_
  refine lv_icmp_ge (tgt := 65) hx hb dX0_year_35 (by decide) (fun c_5 => ?_) (fun c_5 => ?_)
  · have hE := ip c_5 hE
    exact hx1 _ (Option.some.inj hE).symm H locs cells slots ls hP hS (hBr hB hr) (lv_sub hl [2] rfl)
  · have hE := iq c_5 hE
    exact hc (Option.some.inj hE).symm H locs cells slots ls hP hS hB hl
noncomputable def fX0_year_1_B33 (k : Nat) (V : XV) (v1 : Int32) (a : Int32 × Int32 × XS) : Option ((Int32 × Int32 × XS) ⊕ (Int32 × XS)) := (fX1_keeps k a.2.2 ).bind fun r_6 => (fX0_passes_9 k V r_6 ).bind fun r_7 => some (.inl ((a.1 + r_7.1), (a.2.1 + (1 : Int32)), r_7.2))
set_option maxHeartbeats 1000000 in
theorem wX0_year_1_B33 {p : Program} {l : Launch} {e : Env} {s : State} {m : MethodId} {args : Array Value} {below : List Frame} {meth : Method} {c : Code} {E : XE} {Q : State → Prop} (k : Nat) (nc ns : Nat) (v1 : Int32) (rec res : Nat) (hr : rec ≤ nc ∧ res ≤ ns) (hC : xC E RX0 cX0_year 4 (some .int) p s m args meth c) (a : Int32 × Int32 × XS) (y : (Int32 × Int32 × XS) ⊕ (Int32 × XS)) (hE : fX0_year_1_B33 k E.2.2.2.2.2 v1 a = some y) (hc : ∀ a : Int32 × Int32 × XS, y = .inl a → xW p l e rmX0_year_1 s m args below meth c E 4 Q (0 + nc) (0 + ns) 33 [(0, .ref (E.2.2.1 0)), (1, .int v1), (2, .int a.1), (3, .int a.2.1)] [] a.2.2) (hx1 : ∀ b : Int32 × XS, y = .inr b → xW p l e rmX0_year_1 s m args below meth c E 4 Q rec res 65 [(2, .int b.1)] [] b.2) : xW p l e rmX0_year_1 s m args below meth c E 4 Q (7 + nc) (28 + ns) 38 [(0, .ref (E.2.2.1 0)), (1, .int v1), (2, .int a.1), (3, .int a.2.1)] [] a.2.2 := by
  intro H locs cells slots ls hP hS hB hl
  have hx := hC.1
  have hb := hC.2.1
  have hown := hC.2.2.2.2.2.1
  have hts := hC.2.2.2.2.2.2.1
  unfold fX0_year_1_B33 at hE
  refine lv_aload_n hx hb dX0_year_38 rfl (lv_at hl 0 rfl) ?_
  refine gX_21 hC hP dX0_year_39 ?_
  obtain ⟨r_6, h_6, hE⟩ := ob hE
  refine x_callV (rc1 := _) (rs1 := _) [] (E.2.2.1 1) hC hP hS hB hl.1 (wX1_keeps k a.2.2  r_6 h_6) (xC.c1 hC) (xw_get E _ (k := 1) (by decide)) (cwV 0 hts lkX0_165 rfl rfl rfl cdX1_keeps ⟨Nat.le_of_ble_eq_true rfl, Nat.le_of_ble_eq_true rfl⟩) rfl rfl (lv_room (Nat.le_of_ble_eq_true rfl)) ⟨Nat.le_of_eq (Nat.zero_add _), Nat.le_of_eq (Nat.zero_add _)⟩ dX0_year_42 (fun H locs cells slots hP hS hB => ?_)
  show W p l e _ s m args below meth c H locs cells slots _ (F0 m _ ls ([]))
  refine lv_iload_n hx hb dX0_year_45 rfl (lv_at hl 2 rfl) ?_
  refine lv_aload_n hx hb dX0_year_46 rfl (lv_at hl 0 rfl) ?_
  refine lv_aload_n hx hb dX0_year_47 rfl (lv_at hl 0 rfl) ?_
  refine gX_21 hC hP dX0_year_48 ?_
  refine gN_65_1 hC hP dX0_year_51 ?_
  obtain ⟨r_7, h_7, hE⟩ := ob hE
  refine x_callV (rc1 := 0 + nc) (rs1 := 0 + ns) [.ref (E.2.2.1 9)] (E.2.2.1 0) hC hP hS hB hl.1 (wX0_passes_9 k r_6  r_7 h_7) (xC.c0 hC) (xw_get E _ (k := 0) (by decide)) (cwV 1 hts lkX0_196 rfl rfl rfl cdX0_passes ⟨Nat.le_of_ble_eq_true rfl, Nat.le_of_ble_eq_true rfl⟩) rfl rfl (lv_room (Nat.le_of_ble_eq_true rfl)) ⟨hrm rfl, hrm rfl⟩ dX0_year_54 (fun H locs cells slots hP hS hB => ?_)
  show W p l e _ s m args below meth c H locs cells slots _ (F0 m _ ls (.int r_7.1 :: .int a.1 :: []))
  refine lv_iadd hx hb dX0_year_57 ?_
  refine lv_istore_n (lv' := [(2, .int (a.1 + r_7.1)), (0, .ref (E.2.2.1 0)), (1, .int v1), (3, .int a.2.1)]) hx hb dX0_year_58 rfl hl (Nat.le_of_ble_eq_true rfl) rfl (fun ls hl => ?_)
  refine lv_iinc (v := (a.2.1 + (1 : Int32))) (lv' := [(3, .int (a.2.1 + (1 : Int32))), (2, .int (a.1 + r_7.1)), (0, .ref (E.2.2.1 0)), (1, .int v1)]) hx hb dX0_year_59 hl (k := 3) rfl rfl (Nat.le_of_ble_eq_true rfl) rfl (fun ls hl => ?_)
  refine lv_goto (tgt := 33) hx hb dX0_year_62 (by decide) ?_
  exact hc _ (Option.some.inj hE).symm H locs cells slots ls hP hS hB (lv_sub hl [2, 3, 1, 0] rfl)
noncomputable def fX0_year_1 (k : Nat) (V : XV) (z : XS) (x1 : Int32) : Option (Int32 × XS) := (fX0_in x1 (1 : Int32) (60 : Int32)).bind fun r_1 => if r_1 = 0 then (some ((-1 : Int32), z)) else (if ((z.2.1 9 (0 : Int32).toNatClampNeg) + x1) ≤ (9999 : Int32) then ((lpw (fX0_year_1_T33 k V x1) (fX0_year_1_B33 k V x1) 1 ((0 : Int32), (0 : Int32), z)).bind fun x_8 => some (x_8.1, x_8.2)) else (some ((-1 : Int32), z)))
set_option maxHeartbeats 1000000 in
theorem wX0_year_1 {l : Launch} {E : XE} (k : Nat) (z : XS) (x1 : Int32) (y : Int32 × XS) (hE : fX0_year_1 k E.2.2.2.2.2 z x1 = some y) : xM l yX0_year (ws_ yX0_year cX0_year 4 (some .int)) rmX0_year_1 E z [.ref (E.2.2.1 0), .int x1] (some (.int y.1)) y.2 := by
  refine x_met (own := RX0) (by decide) rfl (Nat.le_of_ble_eq_true rfl) (fun p e s m args below meth c hC => ?_)
  intro H locs cells slots ls hP hS hB hl
  have hx := hC.1
  have hb := hC.2.1
  have hown := hC.2.2.2.2.2.1
  have hts := hC.2.2.2.2.2.2.1
  have hl : lv_has ls 4 [(0, .ref (E.2.2.1 0)), (1, .int x1)] := hl
  unfold fX0_year_1 at hE
  refine lv_iload_n hx hb dX0_year_0 rfl (lv_at hl 1 rfl) ?_
  refine lv_iconst (v := 1) hx hb dX0_year_1 (by decide) ?_
  refine lv_bipush (v := 60) hx hb dX0_year_2 (by decide) ?_
  obtain ⟨r_1, h_1, hE⟩ := ob hE
  refine s_calli [.int x1, .int (1 : Int32), .int (60 : Int32)] hC.sC hl.1 (wX0_in x1 (1 : Int32) (60 : Int32) r_1 h_1) (va_cwS 3 hts lkX0_58 rfl rfl rfl cdX0_in ⟨Nat.le_of_ble_eq_true rfl, Nat.le_of_ble_eq_true rfl⟩) rfl rfl (lv_room (Nat.le_of_ble_eq_true rfl)) (hB0 hB) dX0_year_4 ?_
  refine lv_if_eq (tgt := 27) hx hb dX0_year_7 (by decide) (fun c_2 => ?_) (fun c_2 => ?_)
  · have hE := ip c_2 hE
    refine lv_iconst (v := -1) hx hb dX0_year_27 (by decide) ?_
    obtain rfl := Option.some.inj hE
    exact x_iret hC hP hS hB dX0_year_28
  · have hE := iq c_2 hE
    refine lv_aload_n hx hb dX0_year_10 rfl (lv_at hl 0 rfl) ?_
    refine gX_21 hC hP dX0_year_11 ?_
    refine gN_65_1 hC hP dX0_year_14 ?_
    refine lv_iconst (v := 0) hx hb dX0_year_17 (by decide) ?_
    refine x_iald hC hP (⟨by decide, rfl, rfl⟩ : xint 9 190) (i := (0 : Int32)) (by decide) dX0_year_18 ?_
    refine lv_iload_n hx hb dX0_year_19 rfl (lv_at hl 1 rfl) ?_
    refine lv_iadd hx hb dX0_year_20 ?_
    refine lv_sipush (v := 9999) hx hb dX0_year_21 (by decide) ?_
    refine lv_icmp_le (tgt := 29) hx hb dX0_year_24 (by decide) (fun c_4 => ?_) (fun c_4 => ?_)
    · have hE := ip c_4 hE
      refine lv_iconst (v := 0) hx hb dX0_year_29 (by decide) ?_
      refine lv_istore_n (lv' := [(2, .int (0 : Int32)), (0, .ref (E.2.2.1 0)), (1, .int x1)]) hx hb dX0_year_30 rfl hl (Nat.le_of_ble_eq_true rfl) rfl (fun ls hl => ?_)
      refine lv_iconst (v := 0) hx hb dX0_year_31 (by decide) ?_
      refine lv_istore_n (lv' := [(3, .int (0 : Int32)), (2, .int (0 : Int32)), (0, .ref (E.2.2.1 0)), (1, .int x1)]) hx hb dX0_year_32 rfl hl (Nat.le_of_ble_eq_true rfl) rfl (fun ls hl => ?_)
      obtain ⟨x_8, h_8, hE⟩ := ob hE
      refine lpw_walk (α := Int32 × Int32 × XS) (β := (Int32 × XS)) (fun n_8 p_8 => xW p l e rmX0_year_1 s m args below meth c E 4 (xQ E rmX0_year_1 below args s (some (.int y.1)) y.2) (n_8 * 7 + 0) (n_8 * 28 + 0) 33 [(0, .ref (E.2.2.1 0)), (1, .int x1), (2, .int p_8.1), (3, .int p_8.2.1)] [] p_8.2.2) (fun n_8 p_8 => xW p l e rmX0_year_1 s m args below meth c E 4 (xQ E rmX0_year_1 below args s (some (.int y.1)) y.2) (7 + (n_8 * 7 + 0)) (28 + (n_8 * 28 + 0)) 38 [(0, .ref (E.2.2.1 0)), (1, .int x1), (2, .int p_8.1), (3, .int p_8.2.1)] [] p_8.2.2) (fun q_8 => xW p l e rmX0_year_1 s m args below meth c E 4 (xQ E rmX0_year_1 below args s (some (.int y.1)) y.2) 0 0 65 [(2, .int q_8.1)] [] q_8.2) (fun n_8 a_8 y_8 hB_8 hc_8 hx_8 => wX0_year_1_T33 k x1 (n_8 * 7 + 0) (n_8 * 28 + 0) 0 0 ⟨Nat.le_add_left _ _, Nat.le_add_left _ _⟩ hC a_8 y_8 hB_8 (fun e_8 => ?_) hx_8) (fun n_8 a_8 y_8 hB_8 hc_8 hx_8 => wX0_year_1_B33 k (n_8 * 7 + 0) (n_8 * 28 + 0) x1 0 0 ⟨Nat.le_add_left _ _, Nat.le_add_left _ _⟩ hC a_8 y_8 hB_8 (fun b_8 e_8 => by have h9 := hc_8 b_8 e_8; rw [Nat.zero_add (n_8 * 7 + 0), Nat.zero_add (n_8 * 28 + 0)]; exact h9) hx_8) 1 _ x_8 h_8 ?_ H locs cells slots ls hP hS ⟨by have := hB.1; omega, by have := hB.2; omega⟩ (lv_sub hl [2, 3, 1, 0] rfl)
      · obtain ⟨h1, h2⟩ := hc_8 e_8
        have e1 : n_8 * 7 + 0 = 7 + ((n_8 - 1) * 7 + 0) := by omega
        have e2 : n_8 * 28 + 0 = 28 + ((n_8 - 1) * 28 + 0) := by omega
        rw [e1, e2]
        exact h2
      intro H locs cells slots ls hP hS hB hl
      refine lv_iload_n hx hb dX0_year_65 rfl (lv_at hl 0 rfl) ?_
      obtain rfl := Option.some.inj hE
      exact x_iret hC hP hS hB dX0_year_66
    · have hE := iq c_4 hE
      refine lv_iconst (v := -1) hx hb dX0_year_27 (by decide) ?_
      obtain rfl := Option.some.inj hE
      exact x_iret hC hP hS hB dX0_year_28
noncomputable def fX0_passesAll_T2 (k : Nat) (V : XV) (v1 : Int32) (a : Int32 × XS) : Option (Option (XS ⊕ XS)) := if v1 ≤ a.1 then (some (some (.inl a.2))) else (some none)
set_option maxHeartbeats 1000000 in
theorem wX0_passesAll_T2 {p : Program} {l : Launch} {e : Env} {s : State} {m : MethodId} {args : Array Value} {below : List Frame} {meth : Method} {c : Code} {E : XE} {Q : State → Prop} (k : Nat) (v1 : Int32) (rcv rsv rec res : Nat) (hr : rec ≤ rcv ∧ res ≤ rsv) (hC : xC E RX0 cX0_passesAll 3 (some .boolean) p s m args meth c) (a : Int32 × XS) (y : Option (XS ⊕ XS)) (hE : fX0_passesAll_T2 k E.2.2.2.2.2 v1 a = some y) (hc : y = none → xW p l e rmX0_passesAll s m args below meth c E 3 Q rcv rsv 7 [(0, .ref (E.2.2.1 0)), (1, .int v1), (2, .int a.1)] [] a.2) (hx1 : ∀ b : XS, y = some (.inl b) → xW p l e rmX0_passesAll s m args below meth c E 3 Q rec res 24 [] [] b) (hx2 : ∀ b : XS, y = some (.inr b) → xW p l e rmX0_passesAll s m args below meth c E 3 Q rec res 16 [] [] b) : xW p l e rmX0_passesAll s m args below meth c E 3 Q rcv rsv 2 [(0, .ref (E.2.2.1 0)), (1, .int v1), (2, .int a.1)] [] a.2 := by
  intro H locs cells slots ls hP hS hB hl
  have hx := hC.1
  have hb := hC.2.1
  have hown := hC.2.2.2.2.2.1
  have hts := hC.2.2.2.2.2.2.1
  unfold fX0_passesAll_T2 at hE
  refine lv_iload_n hx hb dX0_passesAll_2 rfl (lv_at hl 2 rfl) ?_
  refine lv_iload_n hx hb dX0_passesAll_3 rfl (lv_at hl 1 rfl) ?_
  refine lv_icmp_ge (tgt := 24) hx hb dX0_passesAll_4 (by decide) (fun c_1 => ?_) (fun c_1 => ?_)
  · have hE := ip c_1 hE
    exact hx1 _ (Option.some.inj hE).symm H locs cells slots ls hP hS (hBr hB hr) (lv_sub hl [] rfl)
  · have hE := iq c_1 hE
    exact hc (Option.some.inj hE).symm H locs cells slots ls hP hS hB hl
noncomputable def fX0_passesAll_B2 (k : Nat) (V : XV) (v1 : Int32) (a : Int32 × XS) : Option ((Int32 × XS) ⊕ (XS ⊕ XS)) := (fX0_year_1 k V a.2 (1 : Int32)).bind fun r_2 => if r_2.1 = (-1 : Int32) then (some (.inr (.inr r_2.2))) else (some (.inl ((a.1 + (1 : Int32)), r_2.2)))
set_option maxHeartbeats 1000000 in
theorem wX0_passesAll_B2 {p : Program} {l : Launch} {e : Env} {s : State} {m : MethodId} {args : Array Value} {below : List Frame} {meth : Method} {c : Code} {E : XE} {Q : State → Prop} (k : Nat) (nc ns : Nat) (v1 : Int32) (rec res : Nat) (hr : rec ≤ nc ∧ res ≤ ns) (hC : xC E RX0 cX0_passesAll 3 (some .boolean) p s m args meth c) (a : Int32 × XS) (y : (Int32 × XS) ⊕ (XS ⊕ XS)) (hE : fX0_passesAll_B2 k E.2.2.2.2.2 v1 a = some y) (hc : ∀ a : Int32 × XS, y = .inl a → xW p l e rmX0_passesAll s m args below meth c E 3 Q (0 + nc) (0 + ns) 2 [(0, .ref (E.2.2.1 0)), (1, .int v1), (2, .int a.1)] [] a.2) (hx1 : ∀ b : XS, y = .inr (.inl b) → xW p l e rmX0_passesAll s m args below meth c E 3 Q rec res 24 [] [] b) (hx2 : ∀ b : XS, y = .inr (.inr b) → xW p l e rmX0_passesAll s m args below meth c E 3 Q rec res 16 [] [] b) : xW p l e rmX0_passesAll s m args below meth c E 3 Q (7 + nc) (28 + ns) 7 [(0, .ref (E.2.2.1 0)), (1, .int v1), (2, .int a.1)] [] a.2 := by
  intro H locs cells slots ls hP hS hB hl
  have hx := hC.1
  have hb := hC.2.1
  have hown := hC.2.2.2.2.2.1
  have hts := hC.2.2.2.2.2.2.1
  unfold fX0_passesAll_B2 at hE
  refine lv_aload_n hx hb dX0_passesAll_7 rfl (lv_at hl 0 rfl) ?_
  refine lv_iconst (v := 1) hx hb dX0_passesAll_8 (by decide) ?_
  obtain ⟨r_2, h_2, hE⟩ := ob hE
  refine x_callV (rc1 := 0 + nc) (rs1 := 0 + ns) [.int (1 : Int32)] (E.2.2.1 0) hC hP hS hB hl.1 (wX0_year_1 k a.2 (1 : Int32) r_2 h_2) (xC.c0 hC) (xw_get E _ (k := 0) (by decide)) (cwV 1 hts lkX0_200 rfl rfl rfl cdX0_year ⟨Nat.le_of_ble_eq_true rfl, Nat.le_of_ble_eq_true rfl⟩) rfl rfl (lv_room (Nat.le_of_ble_eq_true rfl)) ⟨hrm rfl, hrm rfl⟩ dX0_passesAll_9 (fun H locs cells slots hP hS hB => ?_)
  show W p l e _ s m args below meth c H locs cells slots _ (F0 m _ ls (.int r_2.1 :: []))
  refine lv_iconst (v := -1) hx hb dX0_passesAll_12 (by decide) ?_
  refine lv_icmp_ne (tgt := 18) hx hb dX0_passesAll_13 (by decide) (fun c_3 => ?_) (fun c_3 => ?_)
  · have hE := iq c_3 hE
    refine lv_iinc (v := (a.1 + (1 : Int32))) (lv' := [(2, .int (a.1 + (1 : Int32))), (0, .ref (E.2.2.1 0)), (1, .int v1)]) hx hb dX0_passesAll_18 hl (k := 2) rfl rfl (Nat.le_of_ble_eq_true rfl) rfl (fun ls hl => ?_)
    refine lv_goto (tgt := 2) hx hb dX0_passesAll_21 (by decide) ?_
    exact hc _ (Option.some.inj hE).symm H locs cells slots ls hP hS hB (lv_sub hl [1, 2, 0] rfl)
  · have hE := ip c_3 hE
    exact hx2 _ (Option.some.inj hE).symm H locs cells slots ls hP hS (hBq hB hr) (lv_sub hl [] rfl)
noncomputable def fX0_passesAll (k : Nat) (V : XV) (z : XS) (x1 : Int32) : Option (Int32 × XS) := (lpw (fX0_passesAll_T2 k V x1) (fX0_passesAll_B2 k V x1) 60 ((0 : Int32), z)).bind fun x_4 => (Sum.elim (fun t_4 : XS => some ((1 : Int32), t_4)) (fun t_4 : XS => some ((0 : Int32), t_4))) x_4
set_option maxHeartbeats 1000000 in
theorem wX0_passesAll {l : Launch} {E : XE} (k : Nat) (z : XS) (x1 : Int32) (y : Int32 × XS) (hE : fX0_passesAll k E.2.2.2.2.2 z x1 = some y) : xM l yX0_passesAll (ws_ yX0_passesAll cX0_passesAll 3 (some .boolean)) rmX0_passesAll E z [.ref (E.2.2.1 0), .int x1] (some (.int y.1)) y.2 := by
  refine x_met (own := RX0) (by decide) rfl (Nat.le_of_ble_eq_true rfl) (fun p e s m args below meth c hC => ?_)
  intro H locs cells slots ls hP hS hB hl
  have hx := hC.1
  have hb := hC.2.1
  have hown := hC.2.2.2.2.2.1
  have hts := hC.2.2.2.2.2.2.1
  have hl : lv_has ls 3 [(0, .ref (E.2.2.1 0)), (1, .int x1)] := hl
  unfold fX0_passesAll at hE
  refine lv_iconst (v := 0) hx hb dX0_passesAll_0 (by decide) ?_
  refine lv_istore_n (lv' := [(2, .int (0 : Int32)), (0, .ref (E.2.2.1 0)), (1, .int x1)]) hx hb dX0_passesAll_1 rfl hl (Nat.le_of_ble_eq_true rfl) rfl (fun ls hl => ?_)
  obtain ⟨x_4, h_4, hE⟩ := ob hE
  refine lpw_walk (α := Int32 × XS) (β := (XS ⊕ XS)) (fun n_4 p_4 => xW p l e rmX0_passesAll s m args below meth c E 3 (xQ E rmX0_passesAll below args s (some (.int y.1)) y.2) (n_4 * 7 + 0) (n_4 * 28 + 0) 2 [(0, .ref (E.2.2.1 0)), (1, .int x1), (2, .int p_4.1)] [] p_4.2) (fun n_4 p_4 => xW p l e rmX0_passesAll s m args below meth c E 3 (xQ E rmX0_passesAll below args s (some (.int y.1)) y.2) (7 + (n_4 * 7 + 0)) (28 + (n_4 * 28 + 0)) 7 [(0, .ref (E.2.2.1 0)), (1, .int x1), (2, .int p_4.1)] [] p_4.2) (fun q_4 => (∀ t_4 : XS, q_4 = (.inl t_4) → xW p l e rmX0_passesAll s m args below meth c E 3 (xQ E rmX0_passesAll below args s (some (.int y.1)) y.2) 0 0 24 [] [] t_4) ∧ (∀ t_4 : XS, q_4 = (.inr t_4) → xW p l e rmX0_passesAll s m args below meth c E 3 (xQ E rmX0_passesAll below args s (some (.int y.1)) y.2) 0 0 16 [] [] t_4)) (fun n_4 a_4 y_4 hB_4 hc_4 hx_4 => wX0_passesAll_T2 k x1 (n_4 * 7 + 0) (n_4 * 28 + 0) 0 0 ⟨Nat.le_add_left _ _, Nat.le_add_left _ _⟩ hC a_4 y_4 hB_4 (fun e_4 => ?_) (fun t_4 e_4 => (hx_4 _ e_4).1 t_4 rfl) (fun t_4 e_4 => (hx_4 _ e_4).2 t_4 rfl)) (fun n_4 a_4 y_4 hB_4 hc_4 hx_4 => wX0_passesAll_B2 k (n_4 * 7 + 0) (n_4 * 28 + 0) x1 0 0 ⟨Nat.le_add_left _ _, Nat.le_add_left _ _⟩ hC a_4 y_4 hB_4 (fun b_4 e_4 => by have h9 := hc_4 b_4 e_4; rw [Nat.zero_add (n_4 * 7 + 0), Nat.zero_add (n_4 * 28 + 0)]; exact h9) (fun t_4 e_4 => (hx_4 _ e_4).1 t_4 rfl) (fun t_4 e_4 => (hx_4 _ e_4).2 t_4 rfl)) 60 _ x_4 h_4 ?_ H locs cells slots ls hP hS ⟨by have := hB.1; omega, by have := hB.2; omega⟩ (lv_sub hl [1, 2, 0] rfl)
  · obtain ⟨h1, h2⟩ := hc_4 e_4
    have e1 : n_4 * 7 + 0 = 7 + ((n_4 - 1) * 7 + 0) := by omega
    have e2 : n_4 * 28 + 0 = 28 + ((n_4 - 1) * 28 + 0) := by omega
    rw [e1, e2]
    exact h2
  refine ⟨?_, ?_⟩
  · intro t_4 e_4
    subst e_4
    have hE := oel hE
    intro H locs cells slots ls hP hS hB hl
    refine lv_iconst (v := 1) hx hb dX0_passesAll_24 (by decide) ?_
    obtain rfl := Option.some.inj hE
    exact x_zret (v := (1 : Int32)) hC hP hS hB (by decide) dX0_passesAll_25
  · intro t_4 e_4
    subst e_4
    have hE := oer hE
    intro H locs cells slots ls hP hS hB hl
    refine lv_iconst (v := 0) hx hb dX0_passesAll_16 (by decide) ?_
    obtain rfl := Option.some.inj hE
    exact x_zret (v := (0 : Int32)) hC hP hS hB (by decide) dX0_passesAll_17
noncomputable def fX0_befalls_J35 (k : Nat) (V : XV) (z : XS) (x1 : Int32) (x2 : Int32) (t0 : Int32) : Option (XS) := if (x1 - x1 / (6 : Int32) * (6 : Int32)) = (2 : Int32) then ((fX0_isKind z x2 (1 : Int32)).bind fun r_7 => if r_7 = 0 then (some z) else ((fX0_cuts z x2).bind fun r_9 => some r_9)) else if (x1 - x1 / (6 : Int32) * (6 : Int32)) = (3 : Int32) then ((fX0_isKind z x2 (0 : Int32)).bind fun r_10 => if r_10 = 0 then (some z) else ((fX0_adds z x2).bind fun r_12 => some r_12)) else ((fX0_canRun z t0).bind fun r_13 => if r_13 = 0 then (some z) else ((fX0_runs_9 k V z t0 x2).bind fun r_15 => some r_15.2))
set_option maxHeartbeats 1000000 in
theorem wX0_befalls_J35 {p : Program} {l : Launch} {e : Env} {s : State} {m : MethodId} {args : Array Value} {below : List Frame} {meth : Method} {c : Code} {E : XE} (k : Nat) (z : XS) (x1 : Int32) (x2 : Int32) (t0 : Int32) (hC : xC E RX0 cX0_befalls 5 none p s m args meth c) (y : XS) (hE : fX0_befalls_J35 k E.2.2.2.2.2 z x1 x2 t0 = some y) : xW p l e rmX0_befalls s m args below meth c E 5 (xQ E rmX0_befalls below args s none y) 1 4 35 [(0, .ref (E.2.2.1 0)), (1, .int x1), (2, .int x2)] [.int t0] z := by
  intro H locs cells slots ls hP hS hB hl
  have hx := hC.1
  have hb := hC.2.1
  have hown := hC.2.2.2.2.2.1
  have hts := hC.2.2.2.2.2.2.1
  unfold fX0_befalls_J35 at hE
  refine lv_istore_n (lv' := [(3, .int t0), (0, .ref (E.2.2.1 0)), (1, .int x1), (2, .int x2)]) hx hb dX0_befalls_35 rfl hl (Nat.le_of_ble_eq_true rfl) rfl (fun ls hl => ?_)
  refine lv_iconst (v := -1) hx hb dX0_befalls_36 (by decide) ?_
  refine lv_istore (lv' := [(4, .int (-1 : Int32)), (3, .int t0), (0, .ref (E.2.2.1 0)), (1, .int x1), (2, .int x2)]) hx hb dX0_befalls_37 hl (Nat.le_of_ble_eq_true rfl) rfl (fun ls hl => ?_)
  refine lv_iload_n hx hb dX0_befalls_39 rfl (lv_at hl 3 rfl) ?_
  refine lv_bipush (v := 6) hx hb dX0_befalls_40 (by decide) ?_
  refine lv_irem hx hb dX0_befalls_42 (by decide) ?_
  by_cases c_6_0 : (x1 - x1 / (6 : Int32) * (6 : Int32)) = (2 : Int32)
  · have hE := ip c_6_0 hE
    refine lv_lookup (tgt := 68) (off := 25) hx hb dX0_befalls_43 (by decide) (by rw [c_6_0]; decide) (by decide) ?_
    refine lv_aload_n hx hb dX0_befalls_68 rfl (lv_at hl 2 rfl) ?_
    refine lv_iload_n hx hb dX0_befalls_69 rfl (lv_at hl 4 rfl) ?_
    refine lv_iconst (v := 1) hx hb dX0_befalls_70 (by decide) ?_
    obtain ⟨r_7, h_7, hE⟩ := ob hE
    refine x_callV (rc1 := _) (rs1 := _) [.int x2, .int (1 : Int32)] (E.2.2.1 0) hC hP hS hB hl.1 (wX0_isKind z x2 (1 : Int32) r_7 h_7) (xC.c0 hC) (xw_get E _ (k := 0) (by decide)) (cwV 2 hts lkX0_176 rfl rfl rfl cdX0_isKind ⟨Nat.le_of_ble_eq_true rfl, Nat.le_of_ble_eq_true rfl⟩) rfl rfl (lv_room (Nat.le_of_ble_eq_true rfl)) ⟨Nat.le_of_eq (Nat.zero_add _), Nat.le_of_eq (Nat.zero_add _)⟩ dX0_befalls_71 (fun H locs cells slots hP hS hB => ?_)
    show W p l e _ s m args below meth c H locs cells slots _ (F0 m _ ls (.int r_7 :: []))
    refine lv_if_eq (tgt := 125) hx hb dX0_befalls_74 (by decide) (fun c_8 => ?_) (fun c_8 => ?_)
    · have hE := ip c_8 hE
      obtain rfl := Option.some.inj hE
      exact x_vret hC hP hS hB dX0_befalls_125
    · have hE := iq c_8 hE
      refine lv_aload_n hx hb dX0_befalls_77 rfl (lv_at hl 2 rfl) ?_
      refine lv_iload_n hx hb dX0_befalls_78 rfl (lv_at hl 4 rfl) ?_
      obtain ⟨r_9, h_9, hE⟩ := ob hE
      refine x_callV (rc1 := _) (rs1 := _) [.int x2] (E.2.2.1 0) hC hP hS hB hl.1 (wX0_cuts z x2 r_9 h_9) (xC.c0 hC) (xw_get E _ (k := 0) (by decide)) (cwV 1 hts lkX0_180 rfl rfl rfl cdX0_cuts ⟨Nat.le_of_ble_eq_true rfl, Nat.le_of_ble_eq_true rfl⟩) rfl rfl (lv_room (Nat.le_of_ble_eq_true rfl)) ⟨Nat.le_of_eq (Nat.zero_add _), Nat.le_of_eq (Nat.zero_add _)⟩ dX0_befalls_79 (fun H locs cells slots hP hS hB => ?_)
      show W p l e _ s m args below meth c H locs cells slots _ (F0 m _ ls ([]))
      refine lv_goto (tgt := 125) hx hb dX0_befalls_82 (by decide) ?_
      obtain rfl := Option.some.inj hE
      exact x_vret hC hP hS hB dX0_befalls_125
  have hE := iq c_6_0 hE
  by_cases c_6_1 : (x1 - x1 / (6 : Int32) * (6 : Int32)) = (3 : Int32)
  · have hE := ip c_6_1 hE
    refine lv_lookup (tgt := 85) (off := 42) hx hb dX0_befalls_43 (by decide) (by rw [c_6_1]; decide) (by decide) ?_
    refine lv_aload_n hx hb dX0_befalls_85 rfl (lv_at hl 2 rfl) ?_
    refine lv_iload_n hx hb dX0_befalls_86 rfl (lv_at hl 4 rfl) ?_
    refine lv_iconst (v := 0) hx hb dX0_befalls_87 (by decide) ?_
    obtain ⟨r_10, h_10, hE⟩ := ob hE
    refine x_callV (rc1 := _) (rs1 := _) [.int x2, .int (0 : Int32)] (E.2.2.1 0) hC hP hS hB hl.1 (wX0_isKind z x2 (0 : Int32) r_10 h_10) (xC.c0 hC) (xw_get E _ (k := 0) (by decide)) (cwV 2 hts lkX0_176 rfl rfl rfl cdX0_isKind ⟨Nat.le_of_ble_eq_true rfl, Nat.le_of_ble_eq_true rfl⟩) rfl rfl (lv_room (Nat.le_of_ble_eq_true rfl)) ⟨Nat.le_of_eq (Nat.zero_add _), Nat.le_of_eq (Nat.zero_add _)⟩ dX0_befalls_88 (fun H locs cells slots hP hS hB => ?_)
    show W p l e _ s m args below meth c H locs cells slots _ (F0 m _ ls (.int r_10 :: []))
    refine lv_if_eq (tgt := 125) hx hb dX0_befalls_91 (by decide) (fun c_11 => ?_) (fun c_11 => ?_)
    · have hE := ip c_11 hE
      obtain rfl := Option.some.inj hE
      exact x_vret hC hP hS hB dX0_befalls_125
    · have hE := iq c_11 hE
      refine lv_aload_n hx hb dX0_befalls_94 rfl (lv_at hl 2 rfl) ?_
      refine lv_iload_n hx hb dX0_befalls_95 rfl (lv_at hl 4 rfl) ?_
      obtain ⟨r_12, h_12, hE⟩ := ob hE
      refine x_callV (rc1 := _) (rs1 := _) [.int x2] (E.2.2.1 0) hC hP hS hB hl.1 (wX0_adds z x2 r_12 h_12) (xC.c0 hC) (xw_get E _ (k := 0) (by decide)) (cwV 1 hts lkX0_183 rfl rfl rfl cdX0_adds ⟨Nat.le_of_ble_eq_true rfl, Nat.le_of_ble_eq_true rfl⟩) rfl rfl (lv_room (Nat.le_of_ble_eq_true rfl)) ⟨Nat.le_of_eq (Nat.zero_add _), Nat.le_of_eq (Nat.zero_add _)⟩ dX0_befalls_96 (fun H locs cells slots hP hS hB => ?_)
      show W p l e _ s m args below meth c H locs cells slots _ (F0 m _ ls ([]))
      refine lv_goto (tgt := 125) hx hb dX0_befalls_99 (by decide) ?_
      obtain rfl := Option.some.inj hE
      exact x_vret hC hP hS hB dX0_befalls_125
  have hE := iq c_6_1 hE
  refine lv_lookup (tgt := 102) (off := 59) hx hb dX0_befalls_43 (by decide) ((lv_osw c_6_0 (by decide)).trans ((lv_osw c_6_1 (by decide)).trans (rfl))) (by decide) ?_
  refine lv_aload_n hx hb dX0_befalls_102 rfl (lv_at hl 2 rfl) ?_
  refine lv_iload_n hx hb dX0_befalls_103 rfl (lv_at hl 1 rfl) ?_
  obtain ⟨r_13, h_13, hE⟩ := ob hE
  refine x_callV (rc1 := _) (rs1 := _) [.int t0] (E.2.2.1 0) hC hP hS hB hl.1 (wX0_canRun z t0 r_13 h_13) (xC.c0 hC) (xw_get E _ (k := 0) (by decide)) (cwV 1 hts lkX0_162 rfl rfl rfl cdX0_canRun ⟨Nat.le_of_ble_eq_true rfl, Nat.le_of_ble_eq_true rfl⟩) rfl rfl (lv_room (Nat.le_of_ble_eq_true rfl)) ⟨Nat.le_of_eq (Nat.zero_add _), Nat.le_of_eq (Nat.zero_add _)⟩ dX0_befalls_104 (fun H locs cells slots hP hS hB => ?_)
  show W p l e _ s m args below meth c H locs cells slots _ (F0 m _ ls (.int r_13 :: []))
  refine lv_if_eq (tgt := 125) hx hb dX0_befalls_107 (by decide) (fun c_14 => ?_) (fun c_14 => ?_)
  · have hE := ip c_14 hE
    obtain rfl := Option.some.inj hE
    exact x_vret hC hP hS hB dX0_befalls_125
  · have hE := iq c_14 hE
    refine lv_aload_n hx hb dX0_befalls_110 rfl (lv_at hl 2 rfl) ?_
    refine lv_aload_n hx hb dX0_befalls_111 rfl (lv_at hl 2 rfl) ?_
    refine gX_21 hC hP dX0_befalls_112 ?_
    refine gN_65_1 hC hP dX0_befalls_115 ?_
    refine lv_iload_n hx hb dX0_befalls_118 rfl (lv_at hl 1 rfl) ?_
    refine lv_iload_n hx hb dX0_befalls_119 rfl (lv_at hl 4 rfl) ?_
    obtain ⟨r_15, h_15, hE⟩ := ob hE
    refine x_callV (rc1 := 0) (rs1 := 0) [.ref (E.2.2.1 9), .int t0, .int x2] (E.2.2.1 0) hC hP hS hB hl.1 (wX0_runs_9 k z t0 x2 r_15 h_15) (xC.c0 hC) (xw_get E _ (k := 0) (by decide)) (cwV 3 hts lkX0_168 rfl rfl rfl cdX0_runs ⟨Nat.le_of_ble_eq_true rfl, Nat.le_of_ble_eq_true rfl⟩) rfl rfl (lv_room (Nat.le_of_ble_eq_true rfl)) ⟨Nat.le_of_ble_eq_true rfl, Nat.le_of_ble_eq_true rfl⟩ dX0_befalls_120 (fun H locs cells slots hP hS hB => ?_)
    show W p l e _ s m args below meth c H locs cells slots _ (F0 m _ ls (.int r_15.1 :: []))
    refine lv_istore (lv' := [(4, .int r_15.1), (3, .int t0), (0, .ref (E.2.2.1 0)), (1, .int x1), (2, .int x2)]) hx hb dX0_befalls_123 hl (Nat.le_of_ble_eq_true rfl) rfl (fun ls hl => ?_)
    obtain rfl := Option.some.inj hE
    exact x_vret hC hP hS hB dX0_befalls_125
noncomputable def fX0_befalls (k : Nat) (V : XV) (z : XS) (x1 : Int32) : Option XS := nm ((x1 / (6 : Int32)) - (x1 / (6 : Int32)) / (30 : Int32) * (30 : Int32)) fun v_1 => if (z.2.1 8 (0 : Int32).toNatClampNeg) = 0 then ((fX0_befalls_J35 k V z x1 v_1 (-1 : Int32))) else (if (z.2.1 8 (0 : Int32).toNatClampNeg) = (0 : Int32) then none else (fX0_befalls_J35 k V z x1 v_1 (x1 - x1 / (z.2.1 8 (0 : Int32).toNatClampNeg) * (z.2.1 8 (0 : Int32).toNatClampNeg))))
set_option maxHeartbeats 1000000 in
theorem wX0_befalls {l : Launch} {E : XE} (k : Nat) (z : XS) (x1 : Int32) (y : XS) (hE : fX0_befalls k E.2.2.2.2.2 z x1 = some y) : xM l yX0_befalls (ws_ yX0_befalls cX0_befalls 5 none) rmX0_befalls E z [.ref (E.2.2.1 0), .int x1] none y := by
  refine x_met (own := RX0) (by decide) rfl (Nat.le_of_ble_eq_true rfl) (fun p e s m args below meth c hC => ?_)
  intro H locs cells slots ls hP hS hB hl
  have hx := hC.1
  have hb := hC.2.1
  have hown := hC.2.2.2.2.2.1
  have hts := hC.2.2.2.2.2.2.1
  have hl : lv_has ls 5 [(0, .ref (E.2.2.1 0)), (1, .int x1)] := hl
  unfold fX0_befalls at hE
  refine lv_iload_n hx hb dX0_befalls_0 rfl (lv_at hl 1 rfl) ?_
  refine lv_bipush (v := 6) hx hb dX0_befalls_1 (by decide) ?_
  refine lv_idiv hx hb dX0_befalls_3 (by decide) ?_
  refine lv_bipush (v := 30) hx hb dX0_befalls_4 (by decide) ?_
  refine lv_irem hx hb dX0_befalls_6 (by decide) ?_
  refine nm_i hE (fun v_1 ev_1 hE => ?_)
  refine lv_istore_n (lv' := [(2, .int v_1), (0, .ref (E.2.2.1 0)), (1, .int x1)]) hx hb dX0_befalls_7 rfl hl (Nat.le_of_ble_eq_true rfl) rfl (fun ls hl => ?_)
  refine lv_aload_n hx hb dX0_befalls_8 rfl (lv_at hl 1 rfl) ?_
  refine gX_21 hC hP dX0_befalls_9 ?_
  refine gN_62_1 hC hP dX0_befalls_12 ?_
  refine lv_iconst (v := 0) hx hb dX0_befalls_15 (by decide) ?_
  refine x_iald hC hP (⟨by decide, rfl, rfl⟩ : xint 8 6) (i := (0 : Int32)) (by decide) dX0_befalls_16 ?_
  refine lv_if_ne (tgt := 24) hx hb dX0_befalls_17 (by decide) (fun c_3 => ?_) (fun c_3 => ?_)
  · have hE := iq c_3 hE
    refine lv_iload_n hx hb dX0_befalls_24 rfl (lv_at hl 2 rfl) ?_
    refine lv_aload_n hx hb dX0_befalls_25 rfl (lv_at hl 1 rfl) ?_
    refine gX_21 hC hP dX0_befalls_26 ?_
    refine gN_62_1 hC hP dX0_befalls_29 ?_
    refine lv_iconst (v := 0) hx hb dX0_befalls_32 (by decide) ?_
    refine x_iald hC hP (⟨by decide, rfl, rfl⟩ : xint 8 6) (i := (0 : Int32)) (by decide) dX0_befalls_33 ?_
    obtain ⟨c_5, hE⟩ := og hE
    refine lv_irem hx hb dX0_befalls_34 c_5 ?_
    exact wX0_befalls_J35 k z x1 v_1 (x1 - x1 / (z.2.1 8 (0 : Int32).toNatClampNeg) * (z.2.1 8 (0 : Int32).toNatClampNeg)) hC y hE H locs cells slots ls hP hS hB (lv_sub hl [1, 2, 0] rfl)
  · have hE := ip c_3 hE
    refine lv_iconst (v := -1) hx hb dX0_befalls_20 (by decide) ?_
    refine lv_goto (tgt := 35) hx hb dX0_befalls_21 (by decide) ?_
    exact wX0_befalls_J35 k z x1 v_1 (-1 : Int32) hC y hE H locs cells slots ls hP hS hB (lv_sub hl [1, 2, 0] rfl)
noncomputable def fX0_ages_T51 (k : Nat) (V : XV) (v2 : Int32) (a : Int32 × Int32 × XS) : Option (Option XS) := if v2 ≤ a.2.1 then (some (some a.2.2)) else (some none)
set_option maxHeartbeats 1000000 in
theorem wX0_ages_T51 {p : Program} {l : Launch} {e : Env} {s : State} {m : MethodId} {args : Array Value} {below : List Frame} {meth : Method} {c : Code} {E : XE} {Q : State → Prop} (k : Nat) (v2 : Int32) (rcv rsv rec res : Nat) (hr : rec ≤ rcv ∧ res ≤ rsv) (hC : xC E RX0 cX0_ages 7 (some .int) p s m args meth c) (a : Int32 × Int32 × XS) (y : Option XS) (hE : fX0_ages_T51 k E.2.2.2.2.2 v2 a = some y) (hc : y = none → xW p l e rmX0_ages s m args below meth c E 7 Q rcv rsv 57 [(0, .ref (E.2.2.1 0)), (2, .int v2), (3, .int a.1), (4, .int a.2.1)] [] a.2.2) (hx1 : ∀ b : XS, y = some b → xW p l e rmX0_ages s m args below meth c E 7 Q rec res 134 [(0, .ref (E.2.2.1 0))] [] b) : xW p l e rmX0_ages s m args below meth c E 7 Q rcv rsv 51 [(0, .ref (E.2.2.1 0)), (2, .int v2), (3, .int a.1), (4, .int a.2.1)] [] a.2.2 := by
  intro H locs cells slots ls hP hS hB hl
  have hx := hC.1
  have hb := hC.2.1
  have hown := hC.2.2.2.2.2.1
  have hts := hC.2.2.2.2.2.2.1
  unfold fX0_ages_T51 at hE
  refine lv_iload hx hb dX0_ages_51 (lv_at hl 3 rfl) ?_
  refine lv_iload_n hx hb dX0_ages_53 rfl (lv_at hl 1 rfl) ?_
  refine lv_icmp_ge (tgt := 134) hx hb dX0_ages_54 (by decide) (fun c_7 => ?_) (fun c_7 => ?_)
  · have hE := ip c_7 hE
    exact hx1 _ (Option.some.inj hE).symm H locs cells slots ls hP hS (hBr hB hr) (lv_sub hl [0] rfl)
  · have hE := iq c_7 hE
    exact hc (Option.some.inj hE).symm H locs cells slots ls hP hS hB hl
noncomputable def fX0_ages_B51 (k : Nat) (V : XV) (v2 : Int32) (a : Int32 × Int32 × XS) : Option ((Int32 × Int32 × XS) ⊕ XS) := (fX0_drawn_9 a.2.2 (2 : Int32)).bind fun r_9 => if (4 : Int32) ≤ ((a.2.2.2.1 9 (1 : Int32).toNatClampNeg) - (a.2.2.2.1 9 (1 : Int32).toNatClampNeg) / (6 : Int32) * (6 : Int32)) then (if (9999 : Int32) ≤ (r_9.2.2.1 9 (0 : Int32).toNatClampNeg) then (some (.inl (a.1, (a.2.1 + (1 : Int32)), r_9.2))) else ((fX0_passes_9 k V r_9.2 ).bind fun r_13 => some (.inl ((a.1 + r_13.1), (a.2.1 + (1 : Int32)), r_13.2)))) else ((fX0_befalls k V r_9.2 (a.2.2.2.1 9 (1 : Int32).toNatClampNeg)).bind fun r_14 => some (.inl (a.1, (a.2.1 + (1 : Int32)), r_14)))
set_option maxHeartbeats 1000000 in
theorem wX0_ages_B51 {p : Program} {l : Launch} {e : Env} {s : State} {m : MethodId} {args : Array Value} {below : List Frame} {meth : Method} {c : Code} {E : XE} {Q : State → Prop} (k : Nat) (nc ns : Nat) (v2 : Int32) (rec res : Nat) (hr : rec ≤ nc ∧ res ≤ ns) (hC : xC E RX0 cX0_ages 7 (some .int) p s m args meth c) (a : Int32 × Int32 × XS) (y : (Int32 × Int32 × XS) ⊕ XS) (hE : fX0_ages_B51 k E.2.2.2.2.2 v2 a = some y) (hc : ∀ a : Int32 × Int32 × XS, y = .inl a → xW p l e rmX0_ages s m args below meth c E 7 Q (0 + nc) (0 + ns) 51 [(0, .ref (E.2.2.1 0)), (2, .int v2), (3, .int a.1), (4, .int a.2.1)] [] a.2.2) (hx1 : ∀ b : XS, y = .inr b → xW p l e rmX0_ages s m args below meth c E 7 Q rec res 134 [(0, .ref (E.2.2.1 0))] [] b) : xW p l e rmX0_ages s m args below meth c E 7 Q (7 + nc) (28 + ns) 57 [(0, .ref (E.2.2.1 0)), (2, .int v2), (3, .int a.1), (4, .int a.2.1)] [] a.2.2 := by
  intro H locs cells slots ls hP hS hB hl
  have hx := hC.1
  have hb := hC.2.1
  have hown := hC.2.2.2.2.2.1
  have hts := hC.2.2.2.2.2.2.1
  unfold fX0_ages_B51 at hE
  refine lv_aload_n hx hb dX0_ages_57 rfl (lv_at hl 0 rfl) ?_
  refine gX_21 hC hP dX0_ages_58 ?_
  refine gN_65_1 hC hP dX0_ages_61 ?_
  refine lv_iconst (v := 1) hx hb dX0_ages_64 (by decide) ?_
  refine x_iald hC hP (⟨by decide, rfl, rfl⟩ : xint 9 190) (i := (1 : Int32)) (by decide) dX0_ages_65 ?_
  refine lv_istore (lv' := [(5, .int (a.2.2.2.1 9 (1 : Int32).toNatClampNeg)), (0, .ref (E.2.2.1 0)), (2, .int v2), (3, .int a.1), (4, .int a.2.1)]) hx hb dX0_ages_66 hl (Nat.le_of_ble_eq_true rfl) rfl (fun ls hl => ?_)
  refine lv_aload_n hx hb dX0_ages_68 rfl (lv_at hl 1 rfl) ?_
  refine gX_21 hC hP dX0_ages_69 ?_
  refine gN_65_1 hC hP dX0_ages_72 ?_
  refine lv_iconst (v := 2) hx hb dX0_ages_75 (by decide) ?_
  obtain ⟨r_9, h_9, hE⟩ := ob hE
  refine x_callS (rc1 := _) (rs1 := _) [.ref (E.2.2.1 9), .int (2 : Int32)] hC hP hS hB hl.1 (wX0_drawn_9 a.2.2 (2 : Int32) r_9 h_9) (va_cwS 2 hts lkX0_147 rfl rfl rfl cdX0_drawn ⟨Nat.le_of_ble_eq_true rfl, Nat.le_of_ble_eq_true rfl⟩) rfl rfl (lv_room (Nat.le_of_ble_eq_true rfl)) ⟨Nat.le_of_eq (Nat.zero_add _), Nat.le_of_eq (Nat.zero_add _)⟩ dX0_ages_76 (fun H locs cells slots hP hS hB => ?_)
  show W p l e _ s m args below meth c H locs cells slots _ (F0 m _ ls (.int r_9.1 :: []))
  refine lv_istore (lv' := [(6, .int r_9.1), (5, .int (a.2.2.2.1 9 (1 : Int32).toNatClampNeg)), (0, .ref (E.2.2.1 0)), (2, .int v2), (3, .int a.1), (4, .int a.2.1)]) hx hb dX0_ages_79 hl (Nat.le_of_ble_eq_true rfl) rfl (fun ls hl => ?_)
  refine lv_iload hx hb dX0_ages_81 (lv_at hl 1 rfl) ?_
  refine lv_bipush (v := 6) hx hb dX0_ages_83 (by decide) ?_
  refine lv_irem hx hb dX0_ages_85 (by decide) ?_
  refine lv_iconst (v := 4) hx hb dX0_ages_86 (by decide) ?_
  refine lv_icmp_ge (tgt := 99) hx hb dX0_ages_87 (by decide) (fun c_10 => ?_) (fun c_10 => ?_)
  · have hE := ip c_10 hE
    refine lv_aload_n hx hb dX0_ages_99 rfl (lv_at hl 2 rfl) ?_
    refine gX_21 hC hP dX0_ages_100 ?_
    refine gN_65_1 hC hP dX0_ages_103 ?_
    refine lv_iconst (v := 0) hx hb dX0_ages_106 (by decide) ?_
    refine x_iald hC hP (⟨by decide, rfl, rfl⟩ : xint 9 190) (i := (0 : Int32)) (by decide) dX0_ages_107 ?_
    refine lv_sipush (v := 9999) hx hb dX0_ages_108 (by decide) ?_
    refine lv_icmp_ge (tgt := 128) hx hb dX0_ages_111 (by decide) (fun c_12 => ?_) (fun c_12 => ?_)
    · have hE := ip c_12 hE
      refine lv_iinc (v := (a.2.1 + (1 : Int32))) (lv' := [(4, .int (a.2.1 + (1 : Int32))), (6, .int r_9.1), (5, .int (a.2.2.2.1 9 (1 : Int32).toNatClampNeg)), (0, .ref (E.2.2.1 0)), (2, .int v2), (3, .int a.1)]) hx hb dX0_ages_128 hl (k := 5) rfl rfl (Nat.le_of_ble_eq_true rfl) rfl (fun ls hl => ?_)
      refine lv_goto (tgt := 51) hx hb dX0_ages_131 (by decide) ?_
      exact hc _ (Option.some.inj hE).symm H locs cells slots ls hP hS (hBw hB (by decide) (by decide)) (lv_sub hl [3, 4, 5, 0] rfl)
    · have hE := iq c_12 hE
      refine lv_iload_n hx hb dX0_ages_114 rfl (lv_at hl 4 rfl) ?_
      refine lv_aload_n hx hb dX0_ages_115 rfl (lv_at hl 2 rfl) ?_
      refine lv_aload_n hx hb dX0_ages_116 rfl (lv_at hl 2 rfl) ?_
      refine gX_21 hC hP dX0_ages_117 ?_
      refine gN_65_1 hC hP dX0_ages_120 ?_
      obtain ⟨r_13, h_13, hE⟩ := ob hE
      refine x_callV (rc1 := 0 + nc) (rs1 := 0 + ns) [.ref (E.2.2.1 9)] (E.2.2.1 0) hC hP hS hB hl.1 (wX0_passes_9 k r_9.2  r_13 h_13) (xC.c0 hC) (xw_get E _ (k := 0) (by decide)) (cwV 1 hts lkX0_196 rfl rfl rfl cdX0_passes ⟨Nat.le_of_ble_eq_true rfl, Nat.le_of_ble_eq_true rfl⟩) rfl rfl (lv_room (Nat.le_of_ble_eq_true rfl)) ⟨hrm rfl, hrm rfl⟩ dX0_ages_123 (fun H locs cells slots hP hS hB => ?_)
      show W p l e _ s m args below meth c H locs cells slots _ (F0 m _ ls (.int r_13.1 :: .int a.1 :: []))
      refine lv_iadd hx hb dX0_ages_126 ?_
      refine lv_istore_n (lv' := [(3, .int (a.1 + r_13.1)), (6, .int r_9.1), (5, .int (a.2.2.2.1 9 (1 : Int32).toNatClampNeg)), (0, .ref (E.2.2.1 0)), (2, .int v2), (4, .int a.2.1)]) hx hb dX0_ages_127 rfl hl (Nat.le_of_ble_eq_true rfl) rfl (fun ls hl => ?_)
      refine lv_iinc (v := (a.2.1 + (1 : Int32))) (lv' := [(4, .int (a.2.1 + (1 : Int32))), (3, .int (a.1 + r_13.1)), (6, .int r_9.1), (5, .int (a.2.2.2.1 9 (1 : Int32).toNatClampNeg)), (0, .ref (E.2.2.1 0)), (2, .int v2)]) hx hb dX0_ages_128 hl (k := 5) rfl rfl (Nat.le_of_ble_eq_true rfl) rfl (fun ls hl => ?_)
      refine lv_goto (tgt := 51) hx hb dX0_ages_131 (by decide) ?_
      exact hc _ (Option.some.inj hE).symm H locs cells slots ls hP hS hB (lv_sub hl [4, 5, 1, 0] rfl)
  · have hE := iq c_10 hE
    refine lv_aload_n hx hb dX0_ages_90 rfl (lv_at hl 2 rfl) ?_
    refine lv_iload hx hb dX0_ages_91 (lv_at hl 1 rfl) ?_
    obtain ⟨r_14, h_14, hE⟩ := ob hE
    refine x_callV (rc1 := 6 + nc) (rs1 := 24 + ns) [.int (a.2.2.2.1 9 (1 : Int32).toNatClampNeg)] (E.2.2.1 0) hC hP hS hB hl.1 (wX0_befalls k r_9.2 (a.2.2.2.1 9 (1 : Int32).toNatClampNeg) r_14 h_14) (xC.c0 hC) (xw_get E _ (k := 0) (by decide)) (cwV 1 hts lkX0_256 rfl rfl rfl cdX0_befalls ⟨Nat.le_of_ble_eq_true rfl, Nat.le_of_ble_eq_true rfl⟩) rfl rfl (lv_room (Nat.le_of_ble_eq_true rfl)) ⟨hrm rfl, hrm rfl⟩ dX0_ages_93 (fun H locs cells slots hP hS hB => ?_)
    show W p l e _ s m args below meth c H locs cells slots _ (F0 m _ ls ([]))
    refine lv_goto (tgt := 128) hx hb dX0_ages_96 (by decide) ?_
    refine lv_iinc (v := (a.2.1 + (1 : Int32))) (lv' := [(4, .int (a.2.1 + (1 : Int32))), (6, .int r_9.1), (5, .int (a.2.2.2.1 9 (1 : Int32).toNatClampNeg)), (0, .ref (E.2.2.1 0)), (2, .int v2), (3, .int a.1)]) hx hb dX0_ages_128 hl (k := 5) rfl rfl (Nat.le_of_ble_eq_true rfl) rfl (fun ls hl => ?_)
    refine lv_goto (tgt := 51) hx hb dX0_ages_131 (by decide) ?_
    exact hc _ (Option.some.inj hE).symm H locs cells slots ls hP hS (hBw hB (by decide) (by decide)) (lv_sub hl [3, 4, 5, 0] rfl)
noncomputable def fX0_ages (k : Nat) (V : XV) (z : XS) (x1 : Int32) (x2 : Int32) : Option (Int32 × XS) := (fX0_in x1 (0 : Int32) (9999 : Int32)).bind fun r_1 => if r_1 = 0 then (some ((-1 : Int32), z)) else ((fX0_in x2 (1 : Int32) (40 : Int32)).bind fun r_3 => if r_3 = 0 then (some ((-1 : Int32), z)) else ((fX1_keeps k z ).bind fun r_5 => nm (xA r_5 9 (upd (r_5.2.1 9) (1 : Int32).toNatClampNeg ((x1 * (2 : Int32)) + (263 : Int32)))) fun z_6 => (lpw (fX0_ages_T51 k V x2) (fX0_ages_B51 k V x2) 40 ((0 : Int32), (0 : Int32), z_6)).bind fun x_15 => some ((x_15.2.1 9 (0 : Int32).toNatClampNeg), x_15)))
set_option maxHeartbeats 1000000 in
theorem wX0_ages {l : Launch} {E : XE} (k : Nat) (z : XS) (x1 : Int32) (x2 : Int32) (y : Int32 × XS) (hE : fX0_ages k E.2.2.2.2.2 z x1 x2 = some y) : xM l yX0_ages (ws_ yX0_ages cX0_ages 7 (some .int)) rmX0_ages E z [.ref (E.2.2.1 0), .int x1, .int x2] (some (.int y.1)) y.2 := by
  refine x_met (own := RX0) (by decide) rfl (Nat.le_of_ble_eq_true rfl) (fun p e s m args below meth c hC => ?_)
  intro H locs cells slots ls hP hS hB hl
  have hx := hC.1
  have hb := hC.2.1
  have hown := hC.2.2.2.2.2.1
  have hts := hC.2.2.2.2.2.2.1
  have hl : lv_has ls 7 [(0, .ref (E.2.2.1 0)), (1, .int x1), (2, .int x2)] := hl
  unfold fX0_ages at hE
  refine lv_iload_n hx hb dX0_ages_0 rfl (lv_at hl 1 rfl) ?_
  refine lv_iconst (v := 0) hx hb dX0_ages_1 (by decide) ?_
  refine lv_sipush (v := 9999) hx hb dX0_ages_2 (by decide) ?_
  obtain ⟨r_1, h_1, hE⟩ := ob hE
  refine s_calli [.int x1, .int (0 : Int32), .int (9999 : Int32)] hC.sC hl.1 (wX0_in x1 (0 : Int32) (9999 : Int32) r_1 h_1) (va_cwS 3 hts lkX0_58 rfl rfl rfl cdX0_in ⟨Nat.le_of_ble_eq_true rfl, Nat.le_of_ble_eq_true rfl⟩) rfl rfl (lv_room (Nat.le_of_ble_eq_true rfl)) (hB0 hB) dX0_ages_5 ?_
  refine lv_if_eq (tgt := 21) hx hb dX0_ages_8 (by decide) (fun c_2 => ?_) (fun c_2 => ?_)
  · have hE := ip c_2 hE
    refine lv_iconst (v := -1) hx hb dX0_ages_21 (by decide) ?_
    obtain rfl := Option.some.inj hE
    exact x_iret hC hP hS hB dX0_ages_22
  · have hE := iq c_2 hE
    refine lv_iload_n hx hb dX0_ages_11 rfl (lv_at hl 2 rfl) ?_
    refine lv_iconst (v := 1) hx hb dX0_ages_12 (by decide) ?_
    refine lv_bipush (v := 40) hx hb dX0_ages_13 (by decide) ?_
    obtain ⟨r_3, h_3, hE⟩ := ob hE
    refine s_calli [.int x2, .int (1 : Int32), .int (40 : Int32)] hC.sC hl.1 (wX0_in x2 (1 : Int32) (40 : Int32) r_3 h_3) (va_cwS 3 hts lkX0_58 rfl rfl rfl cdX0_in ⟨Nat.le_of_ble_eq_true rfl, Nat.le_of_ble_eq_true rfl⟩) rfl rfl (lv_room (Nat.le_of_ble_eq_true rfl)) (hB0 hB) dX0_ages_15 ?_
    refine lv_if_ne (tgt := 23) hx hb dX0_ages_18 (by decide) (fun c_4 => ?_) (fun c_4 => ?_)
    · have hE := iq c_4 hE
      refine lv_aload_n hx hb dX0_ages_23 rfl (lv_at hl 0 rfl) ?_
      refine gX_21 hC hP dX0_ages_24 ?_
      obtain ⟨r_5, h_5, hE⟩ := ob hE
      refine x_callV (rc1 := _) (rs1 := _) [] (E.2.2.1 1) hC hP hS hB hl.1 (wX1_keeps k z  r_5 h_5) (xC.c1 hC) (xw_get E _ (k := 1) (by decide)) (cwV 0 hts lkX0_165 rfl rfl rfl cdX1_keeps ⟨Nat.le_of_ble_eq_true rfl, Nat.le_of_ble_eq_true rfl⟩) rfl rfl (lv_room (Nat.le_of_ble_eq_true rfl)) ⟨Nat.le_of_eq (Nat.zero_add _), Nat.le_of_eq (Nat.zero_add _)⟩ dX0_ages_27 (fun H locs cells slots hP hS hB => ?_)
      show W p l e _ s m args below meth c H locs cells slots _ (F0 m _ ls ([]))
      refine lv_aload_n hx hb dX0_ages_30 rfl (lv_at hl 0 rfl) ?_
      refine gX_21 hC hP dX0_ages_31 ?_
      refine gN_65_1 hC hP dX0_ages_34 ?_
      refine lv_iconst (v := 1) hx hb dX0_ages_37 (by decide) ?_
      refine lv_iload_n hx hb dX0_ages_38 rfl (lv_at hl 1 rfl) ?_
      refine lv_iconst (v := 2) hx hb dX0_ages_39 (by decide) ?_
      refine lv_imul hx hb dX0_ages_40 ?_
      refine lv_sipush (v := 263) hx hb dX0_ages_41 (by decide) ?_
      refine lv_iadd hx hb dX0_ages_44 ?_
      obtain ⟨z_6, ez_6, hE⟩ := on hE
      refine x_iast hC hP hS (⟨by decide, rfl, rfl⟩ : xint 9 190) (i := (1 : Int32)) (by decide) ez_6 dX0_ages_45 (fun H locs hP hS => ?_)
      refine lv_iconst (v := 0) hx hb dX0_ages_46 (by decide) ?_
      refine lv_istore_n (lv' := [(3, .int (0 : Int32)), (0, .ref (E.2.2.1 0)), (1, .int x1), (2, .int x2)]) hx hb dX0_ages_47 rfl hl (Nat.le_of_ble_eq_true rfl) rfl (fun ls hl => ?_)
      refine lv_iconst (v := 0) hx hb dX0_ages_48 (by decide) ?_
      refine lv_istore (lv' := [(4, .int (0 : Int32)), (3, .int (0 : Int32)), (0, .ref (E.2.2.1 0)), (1, .int x1), (2, .int x2)]) hx hb dX0_ages_49 hl (Nat.le_of_ble_eq_true rfl) rfl (fun ls hl => ?_)
      obtain ⟨x_15, h_15, hE⟩ := ob hE
      refine lpw_walk (α := Int32 × Int32 × XS) (β := XS) (fun n_15 p_15 => xW p l e rmX0_ages s m args below meth c E 7 (xQ E rmX0_ages below args s (some (.int y.1)) y.2) (n_15 * 7 + 0) (n_15 * 28 + 0) 51 [(0, .ref (E.2.2.1 0)), (2, .int x2), (3, .int p_15.1), (4, .int p_15.2.1)] [] p_15.2.2) (fun n_15 p_15 => xW p l e rmX0_ages s m args below meth c E 7 (xQ E rmX0_ages below args s (some (.int y.1)) y.2) (7 + (n_15 * 7 + 0)) (28 + (n_15 * 28 + 0)) 57 [(0, .ref (E.2.2.1 0)), (2, .int x2), (3, .int p_15.1), (4, .int p_15.2.1)] [] p_15.2.2) (fun q_15 => xW p l e rmX0_ages s m args below meth c E 7 (xQ E rmX0_ages below args s (some (.int y.1)) y.2) 0 0 134 [(0, .ref (E.2.2.1 0))] [] q_15) (fun n_15 a_15 y_15 hB_15 hc_15 hx_15 => wX0_ages_T51 k x2 (n_15 * 7 + 0) (n_15 * 28 + 0) 0 0 ⟨Nat.le_add_left _ _, Nat.le_add_left _ _⟩ hC a_15 y_15 hB_15 (fun e_15 => ?_) hx_15) (fun n_15 a_15 y_15 hB_15 hc_15 hx_15 => wX0_ages_B51 k (n_15 * 7 + 0) (n_15 * 28 + 0) x2 0 0 ⟨Nat.le_add_left _ _, Nat.le_add_left _ _⟩ hC a_15 y_15 hB_15 (fun b_15 e_15 => by have h9 := hc_15 b_15 e_15; rw [Nat.zero_add (n_15 * 7 + 0), Nat.zero_add (n_15 * 28 + 0)]; exact h9) hx_15) 40 _ x_15 h_15 ?_ H locs cells slots ls hP hS ⟨by have := hB.1; omega, by have := hB.2; omega⟩ (lv_sub hl [2, 4, 1, 0] rfl)
      · obtain ⟨h1, h2⟩ := hc_15 e_15
        have e1 : n_15 * 7 + 0 = 7 + ((n_15 - 1) * 7 + 0) := by omega
        have e2 : n_15 * 28 + 0 = 28 + ((n_15 - 1) * 28 + 0) := by omega
        rw [e1, e2]
        exact h2
      intro H locs cells slots ls hP hS hB hl
      refine lv_aload_n hx hb dX0_ages_134 rfl (lv_at hl 0 rfl) ?_
      refine gX_21 hC hP dX0_ages_135 ?_
      refine gN_65_1 hC hP dX0_ages_138 ?_
      refine lv_iconst (v := 0) hx hb dX0_ages_141 (by decide) ?_
      refine x_iald hC hP (⟨by decide, rfl, rfl⟩ : xint 9 190) (i := (0 : Int32)) (by decide) dX0_ages_142 ?_
      obtain rfl := Option.some.inj hE
      exact x_iret hC hP hS hB dX0_ages_143
    · have hE := ip c_4 hE
      refine lv_iconst (v := -1) hx hb dX0_ages_21 (by decide) ?_
      obtain rfl := Option.some.inj hE
      exact x_iret hC hP hS hB dX0_ages_22
noncomputable def fX0_undo (z : XS)  : Option (Int32 × XS) := if (z.2.1 8 (3 : Int32).toNatClampNeg) = 0 then (some ((-1 : Int32), z)) else (nm (xA z 8 (upd (z.2.1 8) (3 : Int32).toNatClampNeg ((z.2.1 8 (3 : Int32).toNatClampNeg) - (1 : Int32)))) fun z_4 => if ib (z_4.2.1 8 (3 : Int32).toNatClampNeg) 30 then none else (nm (xA z_4 9 (va_cpy (z_4.2.1 (70 + (z_4.2.1 8 (3 : Int32).toNatClampNeg).toNatClampNeg)) (z_4.2.1 9) 0 0 190)) fun z_7 => some ((z_7.2.1 8 (3 : Int32).toNatClampNeg), z_7)))
set_option maxHeartbeats 1000000 in
theorem wX0_undo {l : Launch} {E : XE} (z : XS)  (y : Int32 × XS) (hE : fX0_undo z  = some y) : xM l yX0_undo (ws_ yX0_undo cX0_undo 1 (some .int)) rmX0_undo E z [.ref (E.2.2.1 0)] (some (.int y.1)) y.2 := by
  refine x_met (own := RX0) (by decide) rfl (Nat.le_of_ble_eq_true rfl) (fun p e s m args below meth c hC => ?_)
  intro H locs cells slots ls hP hS hB hl
  have hx := hC.1
  have hb := hC.2.1
  have hown := hC.2.2.2.2.2.1
  have hts := hC.2.2.2.2.2.2.1
  have hl : lv_has ls 1 [(0, .ref (E.2.2.1 0))] := hl
  unfold fX0_undo at hE
  refine lv_aload_n hx hb dX0_undo_0 rfl (lv_at hl 0 rfl) ?_
  refine gX_21 hC hP dX0_undo_1 ?_
  refine gN_62_1 hC hP dX0_undo_4 ?_
  refine lv_iconst (v := 3) hx hb dX0_undo_7 (by decide) ?_
  refine x_iald hC hP (⟨by decide, rfl, rfl⟩ : xint 8 6) (i := (3 : Int32)) (by decide) dX0_undo_8 ?_
  refine lv_if_ne (tgt := 14) hx hb dX0_undo_9 (by decide) (fun c_2 => ?_) (fun c_2 => ?_)
  · have hE := iq c_2 hE
    refine lv_aload_n hx hb dX0_undo_14 rfl (lv_at hl 0 rfl) ?_
    refine gX_21 hC hP dX0_undo_15 ?_
    refine gN_62_1 hC hP dX0_undo_18 ?_
    refine lv_iconst (v := 3) hx hb dX0_undo_21 (by decide) ?_
    refine lv_dup2_11 hx hb dX0_undo_22 rfl rfl ?_
    refine x_iald hC hP (⟨by decide, rfl, rfl⟩ : xint 8 6) (i := (3 : Int32)) (by decide) dX0_undo_23 ?_
    refine lv_iconst (v := 1) hx hb dX0_undo_24 (by decide) ?_
    refine lv_isub hx hb dX0_undo_25 ?_
    obtain ⟨z_4, ez_4, hE⟩ := on hE
    refine x_iast hC hP hS (⟨by decide, rfl, rfl⟩ : xint 8 6) (i := (3 : Int32)) (by decide) ez_4 dX0_undo_26 (fun H locs hP hS => ?_)
    refine lv_aload_n hx hb dX0_undo_27 rfl (lv_at hl 0 rfl) ?_
    refine gX_21 hC hP dX0_undo_28 ?_
    refine gN_259_1 hC hP dX0_undo_31 ?_
    refine lv_aload_n hx hb dX0_undo_34 rfl (lv_at hl 0 rfl) ?_
    refine gX_21 hC hP dX0_undo_35 ?_
    refine gN_62_1 hC hP dX0_undo_38 ?_
    refine lv_iconst (v := 3) hx hb dX0_undo_41 (by decide) ?_
    refine x_iald hC hP (⟨by decide, rfl, rfl⟩ : xint 8 6) (i := (3 : Int32)) (by decide) dX0_undo_42 ?_
    obtain ⟨c_6, hE⟩ := og hE
    refine x_aald hC hP xo_15 c_6 dX0_undo_43 ?_
    refine lv_aload_n hx hb dX0_undo_44 rfl (lv_at hl 0 rfl) ?_
    refine gX_21 hC hP dX0_undo_45 ?_
    refine gN_65_1 hC hP dX0_undo_48 ?_
    obtain ⟨z_7, ez_7, hE⟩ := on hE
    refine x_callSN (rc1 := _) (rs1 := _) [.ref (E.2.2.1 (70 + (z_4.2.1 8 (3 : Int32).toNatClampNeg).toNatClampNeg)), .ref (E.2.2.1 9)] hC hP hS hB hl.1 (wX1_copy (n := 190) (xrow xo_15 c_6) (⟨by decide, rfl, rfl⟩ : xint 9 190) (by decide) ez_7) ⟨va_cnB 2 hts (lw_meth q225) rfl rfl rfl (nm_RailingsCount_262 (xC.nest hC)) (hts _ q122) cdX1_copy ⟨Nat.le_of_ble_eq_true rfl, Nat.le_of_ble_eq_true rfl⟩, hts _ q224, trivial⟩ rfl rfl (lv_room (Nat.le_of_ble_eq_true rfl)) ⟨Nat.le_of_eq (Nat.zero_add _), Nat.le_of_eq (Nat.zero_add _)⟩ dX0_undo_51 (fun H locs cells slots hP hS hB => ?_)
    refine lv_aload_n hx hb dX0_undo_54 rfl (lv_at hl 0 rfl) ?_
    refine gX_21 hC hP dX0_undo_55 ?_
    refine gN_62_1 hC hP dX0_undo_58 ?_
    refine lv_iconst (v := 3) hx hb dX0_undo_61 (by decide) ?_
    refine x_iald hC hP (⟨by decide, rfl, rfl⟩ : xint 8 6) (i := (3 : Int32)) (by decide) dX0_undo_62 ?_
    obtain rfl := Option.some.inj hE
    exact x_iret hC hP hS hB dX0_undo_63
  · have hE := ip c_2 hE
    refine lv_iconst (v := -1) hx hb dX0_undo_12 (by decide) ?_
    obtain rfl := Option.some.inj hE
    exact x_iret hC hP hS hB dX0_undo_13
noncomputable def fX0_of (z : XS) (x1 : Int32) (x2 : Int32) : Option Int32 := (fX0_isChild z x1).bind fun r_1 => if r_1 = 0 then (some (-2 : Int32)) else ((fX0_in x2 (0 : Int32) (2 : Int32)).bind fun r_3 => if r_3 = 0 then (some (-2 : Int32)) else (if x2 = 0 then (if ib x1 7 then none else (some (z.2.1 10 x1.toNatClampNeg))) else (if x2 = (1 : Int32) then (if ib x1 7 then none else (some (z.2.1 11 x1.toNatClampNeg))) else (if ib ((62 : Int32) + x1) 190 then none else (some (z.2.1 9 ((62 : Int32) + x1).toNatClampNeg))))))
set_option maxHeartbeats 1000000 in
theorem wX0_of {l : Launch} {E : XE} (z : XS) (x1 : Int32) (x2 : Int32) (y : Int32) (hE : fX0_of z x1 x2 = some y) : xM l yX0_of (ws_ yX0_of cX0_of 3 (some .int)) rmX0_of E z [.ref (E.2.2.1 0), .int x1, .int x2] (some (.int y)) z := by
  refine x_met (own := RX0) (by decide) rfl (Nat.le_of_ble_eq_true rfl) (fun p e s m args below meth c hC => ?_)
  intro H locs cells slots ls hP hS hB hl
  have hx := hC.1
  have hb := hC.2.1
  have hown := hC.2.2.2.2.2.1
  have hts := hC.2.2.2.2.2.2.1
  have hl : lv_has ls 3 [(0, .ref (E.2.2.1 0)), (1, .int x1), (2, .int x2)] := hl
  unfold fX0_of at hE
  refine lv_aload_n hx hb dX0_of_0 rfl (lv_at hl 0 rfl) ?_
  refine lv_iload_n hx hb dX0_of_1 rfl (lv_at hl 1 rfl) ?_
  obtain ⟨r_1, h_1, hE⟩ := ob hE
  refine x_callV (rc1 := _) (rs1 := _) [.int x1] (E.2.2.1 0) hC hP hS hB hl.1 (wX0_isChild z x1 r_1 h_1) (xC.c0 hC) (xw_get E _ (k := 0) (by decide)) (cwV 1 hts lkX0_159 rfl rfl rfl cdX0_isChild ⟨Nat.le_of_ble_eq_true rfl, Nat.le_of_ble_eq_true rfl⟩) rfl rfl (lv_room (Nat.le_of_ble_eq_true rfl)) ⟨Nat.le_of_eq (Nat.zero_add _), Nat.le_of_eq (Nat.zero_add _)⟩ dX0_of_2 (fun H locs cells slots hP hS hB => ?_)
  show W p l e _ s m args below meth c H locs cells slots _ (F0 m _ ls (.int r_1 :: []))
  refine lv_if_eq (tgt := 17) hx hb dX0_of_5 (by decide) (fun c_2 => ?_) (fun c_2 => ?_)
  · have hE := ip c_2 hE
    refine lv_bipush (v := -2) hx hb dX0_of_17 (by decide) ?_
    refine lv_goto (tgt := 67) hx hb dX0_of_19 (by decide) ?_
    obtain rfl := Option.some.inj hE
    exact x_iret hC hP hS hB dX0_of_67
  · have hE := iq c_2 hE
    refine lv_iload_n hx hb dX0_of_8 rfl (lv_at hl 2 rfl) ?_
    refine lv_iconst (v := 0) hx hb dX0_of_9 (by decide) ?_
    refine lv_iconst (v := 2) hx hb dX0_of_10 (by decide) ?_
    obtain ⟨r_3, h_3, hE⟩ := ob hE
    refine s_calli [.int x2, .int (0 : Int32), .int (2 : Int32)] hC.sC hl.1 (wX0_in x2 (0 : Int32) (2 : Int32) r_3 h_3) (va_cwS 3 hts lkX0_58 rfl rfl rfl cdX0_in ⟨Nat.le_of_ble_eq_true rfl, Nat.le_of_ble_eq_true rfl⟩) rfl rfl (lv_room (Nat.le_of_ble_eq_true rfl)) (hB0 hB) dX0_of_11 ?_
    refine lv_if_ne (tgt := 22) hx hb dX0_of_14 (by decide) (fun c_4 => ?_) (fun c_4 => ?_)
    · have hE := iq c_4 hE
      refine lv_iload_n hx hb dX0_of_22 rfl (lv_at hl 2 rfl) ?_
      refine lv_if_ne (tgt := 38) hx hb dX0_of_23 (by decide) (fun c_5 => ?_) (fun c_5 => ?_)
      · have hE := iq c_5 hE
        refine lv_iload_n hx hb dX0_of_38 rfl (lv_at hl 2 rfl) ?_
        refine lv_iconst (v := 1) hx hb dX0_of_39 (by decide) ?_
        refine lv_icmp_ne (tgt := 55) hx hb dX0_of_40 (by decide) (fun c_6 => ?_) (fun c_6 => ?_)
        · have hE := iq c_6 hE
          refine lv_aload_n hx hb dX0_of_55 rfl (lv_at hl 0 rfl) ?_
          refine gX_21 hC hP dX0_of_56 ?_
          refine gN_65_1 hC hP dX0_of_59 ?_
          refine lv_bipush (v := 62) hx hb dX0_of_62 (by decide) ?_
          refine lv_iload_n hx hb dX0_of_64 rfl (lv_at hl 1 rfl) ?_
          refine lv_iadd hx hb dX0_of_65 ?_
          obtain ⟨c_7, hE⟩ := og hE
          refine x_iald hC hP (⟨by decide, rfl, rfl⟩ : xint 9 190) c_7 dX0_of_66 ?_
          obtain rfl := Option.some.inj hE
          exact x_iret hC hP hS hB dX0_of_67
        · have hE := ip c_6 hE
          refine lv_aload_n hx hb dX0_of_43 rfl (lv_at hl 0 rfl) ?_
          refine gX_21 hC hP dX0_of_44 ?_
          refine gN_79_1 hC hP dX0_of_47 ?_
          refine lv_iload_n hx hb dX0_of_50 rfl (lv_at hl 1 rfl) ?_
          obtain ⟨c_8, hE⟩ := og hE
          refine x_iald hC hP (⟨by decide, rfl, rfl⟩ : xint 11 7) c_8 dX0_of_51 ?_
          refine lv_goto (tgt := 67) hx hb dX0_of_52 (by decide) ?_
          obtain rfl := Option.some.inj hE
          exact x_iret hC hP hS hB dX0_of_67
      · have hE := ip c_5 hE
        refine lv_aload_n hx hb dX0_of_26 rfl (lv_at hl 0 rfl) ?_
        refine gX_21 hC hP dX0_of_27 ?_
        refine gN_76_1 hC hP dX0_of_30 ?_
        refine lv_iload_n hx hb dX0_of_33 rfl (lv_at hl 1 rfl) ?_
        obtain ⟨c_9, hE⟩ := og hE
        refine x_iald hC hP (⟨by decide, rfl, rfl⟩ : xint 10 7) c_9 dX0_of_34 ?_
        refine lv_goto (tgt := 67) hx hb dX0_of_35 (by decide) ?_
        obtain rfl := Option.some.inj hE
        exact x_iret hC hP hS hB dX0_of_67
    · have hE := ip c_4 hE
      refine lv_bipush (v := -2) hx hb dX0_of_17 (by decide) ?_
      refine lv_goto (tgt := 67) hx hb dX0_of_19 (by decide) ?_
      obtain rfl := Option.some.inj hE
      exact x_iret hC hP hS hB dX0_of_67
noncomputable def fX0_ofBar (V : XV) (z : XS) (x1 : Int32) (x2 : Int32) : Option (Int32 × XS) := (fX0_isPlace x1).bind fun r_1 => if r_1 = 0 then (some ((-1 : Int32), z)) else ((fX0_in x2 (0 : Int32) (2 : Int32)).bind fun r_3 => if r_3 = 0 then (some ((-1 : Int32), z)) else (if x2 = 0 then ((fX0_kindAt z x1).bind fun r_9 => some (r_9, z)) else (if x2 = (1 : Int32) then (if ib ((32 : Int32) + x1) 190 then none else (some ((z.2.1 9 ((32 : Int32) + x1).toNatClampNeg), z))) else ((fX0_paintsOf_9 V z x1).bind fun r_7 => some (r_7.1, r_7.2)))))
set_option maxHeartbeats 1000000 in
theorem wX0_ofBar {l : Launch} {E : XE} (z : XS) (x1 : Int32) (x2 : Int32) (y : Int32 × XS) (hE : fX0_ofBar E.2.2.2.2.2 z x1 x2 = some y) : xM l yX0_ofBar (ws_ yX0_ofBar cX0_ofBar 3 (some .int)) rmX0_ofBar E z [.ref (E.2.2.1 0), .int x1, .int x2] (some (.int y.1)) y.2 := by
  refine x_met (own := RX0) (by decide) rfl (Nat.le_of_ble_eq_true rfl) (fun p e s m args below meth c hC => ?_)
  intro H locs cells slots ls hP hS hB hl
  have hx := hC.1
  have hb := hC.2.1
  have hown := hC.2.2.2.2.2.1
  have hts := hC.2.2.2.2.2.2.1
  have hl : lv_has ls 3 [(0, .ref (E.2.2.1 0)), (1, .int x1), (2, .int x2)] := hl
  unfold fX0_ofBar at hE
  refine lv_iload_n hx hb dX0_ofBar_0 rfl (lv_at hl 1 rfl) ?_
  obtain ⟨r_1, h_1, hE⟩ := ob hE
  refine s_calli [.int x1] hC.sC hl.1 (wX0_isPlace x1 r_1 h_1) (va_cwS 1 hts lkX0_68 rfl rfl rfl cdX0_isPlace ⟨Nat.le_of_ble_eq_true rfl, Nat.le_of_ble_eq_true rfl⟩) rfl rfl (lv_room (Nat.le_of_ble_eq_true rfl)) (hB0 hB) dX0_ofBar_1 ?_
  refine lv_if_eq (tgt := 16) hx hb dX0_ofBar_4 (by decide) (fun c_2 => ?_) (fun c_2 => ?_)
  · have hE := ip c_2 hE
    refine lv_iconst (v := -1) hx hb dX0_ofBar_16 (by decide) ?_
    refine lv_goto (tgt := 64) hx hb dX0_ofBar_17 (by decide) ?_
    obtain rfl := Option.some.inj hE
    exact x_iret hC hP hS hB dX0_ofBar_64
  · have hE := iq c_2 hE
    refine lv_iload_n hx hb dX0_ofBar_7 rfl (lv_at hl 2 rfl) ?_
    refine lv_iconst (v := 0) hx hb dX0_ofBar_8 (by decide) ?_
    refine lv_iconst (v := 2) hx hb dX0_ofBar_9 (by decide) ?_
    obtain ⟨r_3, h_3, hE⟩ := ob hE
    refine s_calli [.int x2, .int (0 : Int32), .int (2 : Int32)] hC.sC hl.1 (wX0_in x2 (0 : Int32) (2 : Int32) r_3 h_3) (va_cwS 3 hts lkX0_58 rfl rfl rfl cdX0_in ⟨Nat.le_of_ble_eq_true rfl, Nat.le_of_ble_eq_true rfl⟩) rfl rfl (lv_room (Nat.le_of_ble_eq_true rfl)) (hB0 hB) dX0_ofBar_10 ?_
    refine lv_if_ne (tgt := 20) hx hb dX0_ofBar_13 (by decide) (fun c_4 => ?_) (fun c_4 => ?_)
    · have hE := iq c_4 hE
      refine lv_iload_n hx hb dX0_ofBar_20 rfl (lv_at hl 2 rfl) ?_
      refine lv_if_ne (tgt := 32) hx hb dX0_ofBar_21 (by decide) (fun c_5 => ?_) (fun c_5 => ?_)
      · have hE := iq c_5 hE
        refine lv_iload_n hx hb dX0_ofBar_32 rfl (lv_at hl 2 rfl) ?_
        refine lv_iconst (v := 1) hx hb dX0_ofBar_33 (by decide) ?_
        refine lv_icmp_ne (tgt := 52) hx hb dX0_ofBar_34 (by decide) (fun c_6 => ?_) (fun c_6 => ?_)
        · have hE := iq c_6 hE
          refine lv_aload_n hx hb dX0_ofBar_52 rfl (lv_at hl 0 rfl) ?_
          refine lv_aload_n hx hb dX0_ofBar_53 rfl (lv_at hl 0 rfl) ?_
          refine gX_21 hC hP dX0_ofBar_54 ?_
          refine gN_65_1 hC hP dX0_ofBar_57 ?_
          refine lv_iload_n hx hb dX0_ofBar_60 rfl (lv_at hl 1 rfl) ?_
          obtain ⟨r_7, h_7, hE⟩ := ob hE
          refine x_callV (rc1 := _) (rs1 := _) [.ref (E.2.2.1 9), .int x1] (E.2.2.1 0) hC hP hS hB hl.1 (wX0_paintsOf_9 z x1 r_7 h_7) (xC.c0 hC) (xw_get E _ (k := 0) (by decide)) (cwV 2 hts lkX0_186 rfl rfl rfl cdX0_paintsOf ⟨Nat.le_of_ble_eq_true rfl, Nat.le_of_ble_eq_true rfl⟩) rfl rfl (lv_room (Nat.le_of_ble_eq_true rfl)) ⟨Nat.le_of_eq (Nat.zero_add _), Nat.le_of_eq (Nat.zero_add _)⟩ dX0_ofBar_61 (fun H locs cells slots hP hS hB => ?_)
          show W p l e _ s m args below meth c H locs cells slots _ (F0 m _ ls (.int r_7.1 :: []))
          obtain rfl := Option.some.inj hE
          exact x_iret hC hP hS hB dX0_ofBar_64
        · have hE := ip c_6 hE
          refine lv_aload_n hx hb dX0_ofBar_37 rfl (lv_at hl 0 rfl) ?_
          refine gX_21 hC hP dX0_ofBar_38 ?_
          refine gN_65_1 hC hP dX0_ofBar_41 ?_
          refine lv_bipush (v := 32) hx hb dX0_ofBar_44 (by decide) ?_
          refine lv_iload_n hx hb dX0_ofBar_46 rfl (lv_at hl 1 rfl) ?_
          refine lv_iadd hx hb dX0_ofBar_47 ?_
          obtain ⟨c_8, hE⟩ := og hE
          refine x_iald hC hP (⟨by decide, rfl, rfl⟩ : xint 9 190) c_8 dX0_ofBar_48 ?_
          refine lv_goto (tgt := 64) hx hb dX0_ofBar_49 (by decide) ?_
          obtain rfl := Option.some.inj hE
          exact x_iret hC hP hS hB dX0_ofBar_64
      · have hE := ip c_5 hE
        refine lv_aload_n hx hb dX0_ofBar_24 rfl (lv_at hl 0 rfl) ?_
        refine lv_iload_n hx hb dX0_ofBar_25 rfl (lv_at hl 1 rfl) ?_
        obtain ⟨r_9, h_9, hE⟩ := ob hE
        refine x_callV (rc1 := _) (rs1 := _) [.int x1] (E.2.2.1 0) hC hP hS hB hl.1 (wX0_kindAt z x1 r_9 h_9) (xC.c0 hC) (xw_get E _ (k := 0) (by decide)) (cwV 1 hts lkX0_172 rfl rfl rfl cdX0_kindAt ⟨Nat.le_of_ble_eq_true rfl, Nat.le_of_ble_eq_true rfl⟩) rfl rfl (lv_room (Nat.le_of_ble_eq_true rfl)) ⟨Nat.le_of_eq (Nat.zero_add _), Nat.le_of_eq (Nat.zero_add _)⟩ dX0_ofBar_26 (fun H locs cells slots hP hS hB => ?_)
        show W p l e _ s m args below meth c H locs cells slots _ (F0 m _ ls (.int r_9 :: []))
        refine lv_goto (tgt := 64) hx hb dX0_ofBar_29 (by decide) ?_
        obtain rfl := Option.some.inj hE
        exact x_iret hC hP hS hB dX0_ofBar_64
    · have hE := ip c_4 hE
      refine lv_iconst (v := -1) hx hb dX0_ofBar_16 (by decide) ?_
      refine lv_goto (tgt := 64) hx hb dX0_ofBar_17 (by decide) ?_
      obtain rfl := Option.some.inj hE
      exact x_iret hC hP hS hB dX0_ofBar_64
noncomputable def fX0_catches (V : XV) (z : XS) (x1 : Int32) (x2 : Int32) (x3 : Int32) : Option (Int32 × XS) := (fX0_isChild z x1).bind fun r_1 => if r_1 = 0 then (some ((-1 : Int32), z)) else ((fX0_isPlace x2).bind fun r_3 => if r_3 = 0 then (some ((-1 : Int32), z)) else ((fX0_in x3 (1 : Int32) (60 : Int32)).bind fun r_5 => if r_5 = 0 then (some ((-1 : Int32), z)) else ((fX0_rules V z ).bind fun r_7 => (fX0_catchesBy_9 V z r_7 x1 x2 x3).bind fun r_8 => some (r_8.1, r_8.2))))
set_option maxHeartbeats 1000000 in
theorem wX0_catches {l : Launch} {E : XE} (z : XS) (x1 : Int32) (x2 : Int32) (x3 : Int32) (y : Int32 × XS) (hE : fX0_catches E.2.2.2.2.2 z x1 x2 x3 = some y) : xM l yX0_catches (ws_ yX0_catches cX0_catches 4 (some .int)) rmX0_catches E z [.ref (E.2.2.1 0), .int x1, .int x2, .int x3] (some (.int y.1)) y.2 := by
  refine x_met (own := RX0) (by decide) rfl (Nat.le_of_ble_eq_true rfl) (fun p e s m args below meth c hC => ?_)
  intro H locs cells slots ls hP hS hB hl
  have hx := hC.1
  have hb := hC.2.1
  have hown := hC.2.2.2.2.2.1
  have hts := hC.2.2.2.2.2.2.1
  have hl : lv_has ls 4 [(0, .ref (E.2.2.1 0)), (1, .int x1), (2, .int x2), (3, .int x3)] := hl
  unfold fX0_catches at hE
  refine lv_aload_n hx hb dX0_catches_0 rfl (lv_at hl 0 rfl) ?_
  refine lv_iload_n hx hb dX0_catches_1 rfl (lv_at hl 1 rfl) ?_
  obtain ⟨r_1, h_1, hE⟩ := ob hE
  refine x_callV (rc1 := _) (rs1 := _) [.int x1] (E.2.2.1 0) hC hP hS hB hl.1 (wX0_isChild z x1 r_1 h_1) (xC.c0 hC) (xw_get E _ (k := 0) (by decide)) (cwV 1 hts lkX0_159 rfl rfl rfl cdX0_isChild ⟨Nat.le_of_ble_eq_true rfl, Nat.le_of_ble_eq_true rfl⟩) rfl rfl (lv_room (Nat.le_of_ble_eq_true rfl)) ⟨Nat.le_of_eq (Nat.zero_add _), Nat.le_of_eq (Nat.zero_add _)⟩ dX0_catches_2 (fun H locs cells slots hP hS hB => ?_)
  show W p l e _ s m args below meth c H locs cells slots _ (F0 m _ ls (.int r_1 :: []))
  refine lv_if_eq (tgt := 46) hx hb dX0_catches_5 (by decide) (fun c_2 => ?_) (fun c_2 => ?_)
  · have hE := ip c_2 hE
    refine lv_iconst (v := -1) hx hb dX0_catches_46 (by decide) ?_
    obtain rfl := Option.some.inj hE
    exact x_iret hC hP hS hB dX0_catches_47
  · have hE := iq c_2 hE
    refine lv_iload_n hx hb dX0_catches_8 rfl (lv_at hl 2 rfl) ?_
    obtain ⟨r_3, h_3, hE⟩ := ob hE
    refine s_calli [.int x2] hC.sC hl.1 (wX0_isPlace x2 r_3 h_3) (va_cwS 1 hts lkX0_68 rfl rfl rfl cdX0_isPlace ⟨Nat.le_of_ble_eq_true rfl, Nat.le_of_ble_eq_true rfl⟩) rfl rfl (lv_room (Nat.le_of_ble_eq_true rfl)) (hB0 hB) dX0_catches_9 ?_
    refine lv_if_eq (tgt := 46) hx hb dX0_catches_12 (by decide) (fun c_4 => ?_) (fun c_4 => ?_)
    · have hE := ip c_4 hE
      refine lv_iconst (v := -1) hx hb dX0_catches_46 (by decide) ?_
      obtain rfl := Option.some.inj hE
      exact x_iret hC hP hS hB dX0_catches_47
    · have hE := iq c_4 hE
      refine lv_iload_n hx hb dX0_catches_15 rfl (lv_at hl 3 rfl) ?_
      refine lv_iconst (v := 1) hx hb dX0_catches_16 (by decide) ?_
      refine lv_bipush (v := 60) hx hb dX0_catches_17 (by decide) ?_
      obtain ⟨r_5, h_5, hE⟩ := ob hE
      refine s_calli [.int x3, .int (1 : Int32), .int (60 : Int32)] hC.sC hl.1 (wX0_in x3 (1 : Int32) (60 : Int32) r_5 h_5) (va_cwS 3 hts lkX0_58 rfl rfl rfl cdX0_in ⟨Nat.le_of_ble_eq_true rfl, Nat.le_of_ble_eq_true rfl⟩) rfl rfl (lv_room (Nat.le_of_ble_eq_true rfl)) (hB0 hB) dX0_catches_19 ?_
      refine lv_if_eq (tgt := 46) hx hb dX0_catches_22 (by decide) (fun c_6 => ?_) (fun c_6 => ?_)
      · have hE := ip c_6 hE
        refine lv_iconst (v := -1) hx hb dX0_catches_46 (by decide) ?_
        obtain rfl := Option.some.inj hE
        exact x_iret hC hP hS hB dX0_catches_47
      · have hE := iq c_6 hE
        refine lv_aload_n hx hb dX0_catches_25 rfl (lv_at hl 0 rfl) ?_
        refine lv_aload_n hx hb dX0_catches_26 rfl (lv_at hl 0 rfl) ?_
        obtain ⟨r_7, h_7, hE⟩ := ob hE
        refine x_callV (rc1 := _) (rs1 := _) [] (E.2.2.1 0) hC hP hS hB hl.1 (wX0_rules z  r_7 h_7) (xC.c0 hC) (xw_get E _ (k := 0) (by decide)) (cwV 0 hts lkX0_144 rfl rfl rfl cdX0_rules ⟨Nat.le_of_ble_eq_true rfl, Nat.le_of_ble_eq_true rfl⟩) rfl rfl (lv_room (Nat.le_of_ble_eq_true rfl)) ⟨Nat.le_of_eq (Nat.zero_add _), Nat.le_of_eq (Nat.zero_add _)⟩ dX0_catches_27 (fun H locs cells slots hP hS hB => ?_)
        show W p l e _ s m args below meth c H locs cells slots _ (F0 m _ ls (.ref r_7 :: .ref (E.2.2.1 0) :: []))
        refine lv_aload_n hx hb dX0_catches_30 rfl (lv_at hl 0 rfl) ?_
        refine gX_21 hC hP dX0_catches_31 ?_
        refine gN_65_1 hC hP dX0_catches_34 ?_
        refine lv_iload_n hx hb dX0_catches_37 rfl (lv_at hl 1 rfl) ?_
        refine lv_iload_n hx hb dX0_catches_38 rfl (lv_at hl 2 rfl) ?_
        refine lv_iload_n hx hb dX0_catches_39 rfl (lv_at hl 3 rfl) ?_
        obtain ⟨r_8, h_8, hE⟩ := ob hE
        refine x_callV (rc1 := _) (rs1 := _) [.ref r_7, .ref (E.2.2.1 9), .int x1, .int x2, .int x3] (E.2.2.1 0) hC hP hS hB hl.1 (wX0_catchesBy_9 z r_7 x1 x2 x3 r_8 h_8) (xC.c0 hC) (xw_get E _ (k := 0) (by decide)) (cwV 5 hts lkX0_151 rfl rfl rfl cdX0_catchesBy ⟨Nat.le_of_ble_eq_true rfl, Nat.le_of_ble_eq_true rfl⟩) rfl rfl (lv_room (Nat.le_of_ble_eq_true rfl)) ⟨Nat.le_of_eq (Nat.zero_add _), Nat.le_of_eq (Nat.zero_add _)⟩ dX0_catches_40 (fun H locs cells slots hP hS hB => ?_)
        show W p l e _ s m args below meth c H locs cells slots _ (F0 m _ ls (.int r_8.1 :: []))
        refine lv_goto (tgt := 47) hx hb dX0_catches_43 (by decide) ?_
        obtain rfl := Option.some.inj hE
        exact x_iret hC hP hS hB dX0_catches_47
noncomputable def fX0_barsFrom_B5 (k : Nat) (v1 : Int32) (v2 : Int32) (w : XS) (a : Int32 × Int32) : Option ((Int32 × Int32) ⊕ Int32) := if v2 ≤ a.2 then (some (.inr a.1)) else ((fX0_kindAt w ((v1 + a.2) - (v1 + a.2) / (30 : Int32) * (30 : Int32))).bind fun r_2 => if r_2 = (1 : Int32) then (some (.inl ((a.1 + (1 : Int32)), (a.2 + (1 : Int32))))) else (some (.inl ((a.1 + (0 : Int32)), (a.2 + (1 : Int32))))))
set_option maxHeartbeats 1000000 in
theorem wX0_barsFrom_B5 {p : Program} {l : Launch} {e : Env} {s : State} {m : MethodId} {args : Array Value} {below : List Frame} {meth : Method} {c : Code} {E : XE} {Q : State → Prop} (k : Nat) (v1 : Int32) (v2 : Int32) (w : XS) (hC : xC E RX0 cX0_barsFrom 5 (some .int) p s m args meth c) (a : Int32 × Int32) (y : (Int32 × Int32) ⊕ Int32) (hE : fX0_barsFrom_B5 k v1 v2 w a = some y) (hc : ∀ a : Int32 × Int32, y = .inl a → xW p l e rmX0_barsFrom s m args below meth c E 5 Q 0 0 5 [(0, .ref (E.2.2.1 0)), (1, .int v1), (2, .int v2), (3, .int a.1), (4, .int a.2)] [] w) (hx1 : ∀ b : Int32, y = .inr b → xW p l e rmX0_barsFrom s m args below meth c E 5 Q 0 0 40 [(3, .int b)] [] w) : xW p l e rmX0_barsFrom s m args below meth c E 5 Q 0 0 5 [(0, .ref (E.2.2.1 0)), (1, .int v1), (2, .int v2), (3, .int a.1), (4, .int a.2)] [] w := by
  intro H locs cells slots ls hP hS hB hl
  have hx := hC.1
  have hb := hC.2.1
  have hown := hC.2.2.2.2.2.1
  have hts := hC.2.2.2.2.2.2.1
  unfold fX0_barsFrom_B5 at hE
  refine lv_iload hx hb dX0_barsFrom_5 (lv_at hl 4 rfl) ?_
  refine lv_iload_n hx hb dX0_barsFrom_7 rfl (lv_at hl 2 rfl) ?_
  refine lv_icmp_ge (tgt := 40) hx hb dX0_barsFrom_8 (by decide) (fun c_1 => ?_) (fun c_1 => ?_)
  · have hE := ip c_1 hE
    exact hx1 _ (Option.some.inj hE).symm H locs cells slots ls hP hS hB (lv_sub hl [3] rfl)
  · have hE := iq c_1 hE
    refine lv_iload_n hx hb dX0_barsFrom_11 rfl (lv_at hl 3 rfl) ?_
    refine lv_aload_n hx hb dX0_barsFrom_12 rfl (lv_at hl 0 rfl) ?_
    refine lv_iload_n hx hb dX0_barsFrom_13 rfl (lv_at hl 1 rfl) ?_
    refine lv_iload hx hb dX0_barsFrom_14 (lv_at hl 4 rfl) ?_
    refine lv_iadd hx hb dX0_barsFrom_16 ?_
    refine lv_bipush (v := 30) hx hb dX0_barsFrom_17 (by decide) ?_
    refine lv_irem hx hb dX0_barsFrom_19 (by decide) ?_
    obtain ⟨r_2, h_2, hE⟩ := ob hE
    refine x_callV (rc1 := _) (rs1 := _) [.int ((v1 + a.2) - (v1 + a.2) / (30 : Int32) * (30 : Int32))] (E.2.2.1 0) hC hP hS hB hl.1 (wX0_kindAt w ((v1 + a.2) - (v1 + a.2) / (30 : Int32) * (30 : Int32)) r_2 h_2) (xC.c0 hC) (xw_get E _ (k := 0) (by decide)) (cwV 1 hts lkX0_172 rfl rfl rfl cdX0_kindAt ⟨Nat.le_of_ble_eq_true rfl, Nat.le_of_ble_eq_true rfl⟩) rfl rfl (lv_room (Nat.le_of_ble_eq_true rfl)) ⟨Nat.le_of_eq (Nat.zero_add _), Nat.le_of_eq (Nat.zero_add _)⟩ dX0_barsFrom_20 (fun H locs cells slots hP hS hB => ?_)
    show W p l e _ s m args below meth c H locs cells slots _ (F0 m _ ls (.int r_2 :: .int a.1 :: []))
    refine lv_iconst (v := 1) hx hb dX0_barsFrom_23 (by decide) ?_
    refine lv_icmp_ne (tgt := 31) hx hb dX0_barsFrom_24 (by decide) (fun c_3 => ?_) (fun c_3 => ?_)
    · have hE := iq c_3 hE
      refine lv_iconst (v := 0) hx hb dX0_barsFrom_31 (by decide) ?_
      refine lv_iadd hx hb dX0_barsFrom_32 ?_
      refine lv_istore_n (lv' := [(3, .int (a.1 + (0 : Int32))), (0, .ref (E.2.2.1 0)), (1, .int v1), (2, .int v2), (4, .int a.2)]) hx hb dX0_barsFrom_33 rfl hl (Nat.le_of_ble_eq_true rfl) rfl (fun ls hl => ?_)
      refine lv_iinc (v := (a.2 + (1 : Int32))) (lv' := [(4, .int (a.2 + (1 : Int32))), (3, .int (a.1 + (0 : Int32))), (0, .ref (E.2.2.1 0)), (1, .int v1), (2, .int v2)]) hx hb dX0_barsFrom_34 hl (k := 4) rfl rfl (Nat.le_of_ble_eq_true rfl) rfl (fun ls hl => ?_)
      refine lv_goto (tgt := 5) hx hb dX0_barsFrom_37 (by decide) ?_
      exact hc _ (Option.some.inj hE).symm H locs cells slots ls hP hS hB (lv_sub hl [2, 3, 4, 1, 0] rfl)
    · have hE := ip c_3 hE
      refine lv_iconst (v := 1) hx hb dX0_barsFrom_27 (by decide) ?_
      refine lv_goto (tgt := 32) hx hb dX0_barsFrom_28 (by decide) ?_
      refine lv_iadd hx hb dX0_barsFrom_32 ?_
      refine lv_istore_n (lv' := [(3, .int (a.1 + (1 : Int32))), (0, .ref (E.2.2.1 0)), (1, .int v1), (2, .int v2), (4, .int a.2)]) hx hb dX0_barsFrom_33 rfl hl (Nat.le_of_ble_eq_true rfl) rfl (fun ls hl => ?_)
      refine lv_iinc (v := (a.2 + (1 : Int32))) (lv' := [(4, .int (a.2 + (1 : Int32))), (3, .int (a.1 + (1 : Int32))), (0, .ref (E.2.2.1 0)), (1, .int v1), (2, .int v2)]) hx hb dX0_barsFrom_34 hl (k := 4) rfl rfl (Nat.le_of_ble_eq_true rfl) rfl (fun ls hl => ?_)
      refine lv_goto (tgt := 5) hx hb dX0_barsFrom_37 (by decide) ?_
      exact hc _ (Option.some.inj hE).symm H locs cells slots ls hP hS hB (lv_sub hl [2, 3, 4, 1, 0] rfl)
noncomputable def fX0_barsFrom (k : Nat) (z : XS) (x1 : Int32) (x2 : Int32) : Option Int32 := (lpo (fX0_barsFrom_B5 k x1 x2 z) k ((0 : Int32), (0 : Int32))).bind fun x_4 => some x_4
set_option maxHeartbeats 1000000 in
theorem wX0_barsFrom {l : Launch} {E : XE} (k : Nat) (z : XS) (x1 : Int32) (x2 : Int32) (y : Int32) (hE : fX0_barsFrom k z x1 x2 = some y) : xM l yX0_barsFrom (ws_ yX0_barsFrom cX0_barsFrom 5 (some .int)) rmX0_barsFrom E z [.ref (E.2.2.1 0), .int x1, .int x2] (some (.int y)) z := by
  refine x_met (own := RX0) (by decide) rfl (Nat.le_of_ble_eq_true rfl) (fun p e s m args below meth c hC => ?_)
  intro H locs cells slots ls hP hS hB hl
  have hx := hC.1
  have hb := hC.2.1
  have hown := hC.2.2.2.2.2.1
  have hts := hC.2.2.2.2.2.2.1
  have hl : lv_has ls 5 [(0, .ref (E.2.2.1 0)), (1, .int x1), (2, .int x2)] := hl
  unfold fX0_barsFrom at hE
  refine lv_iconst (v := 0) hx hb dX0_barsFrom_0 (by decide) ?_
  refine lv_istore_n (lv' := [(3, .int (0 : Int32)), (0, .ref (E.2.2.1 0)), (1, .int x1), (2, .int x2)]) hx hb dX0_barsFrom_1 rfl hl (Nat.le_of_ble_eq_true rfl) rfl (fun ls hl => ?_)
  refine lv_iconst (v := 0) hx hb dX0_barsFrom_2 (by decide) ?_
  refine lv_istore (lv' := [(4, .int (0 : Int32)), (3, .int (0 : Int32)), (0, .ref (E.2.2.1 0)), (1, .int x1), (2, .int x2)]) hx hb dX0_barsFrom_3 hl (Nat.le_of_ble_eq_true rfl) rfl (fun ls hl => ?_)
  obtain ⟨x_4, h_4, hE⟩ := ob hE
  refine lpo_walk (fun p_4 : Int32 × Int32 => xW p l e rmX0_barsFrom s m args below meth c E 5 (xQ E rmX0_barsFrom below args s (some (.int y)) z) 0 0 5 [(0, .ref (E.2.2.1 0)), (1, .int x1), (2, .int x2), (3, .int p_4.1), (4, .int p_4.2)] [] z) (fun q_4 : Int32 => xW p l e rmX0_barsFrom s m args below meth c E 5 (xQ E rmX0_barsFrom below args s (some (.int y)) z) 0 0 40 [(3, .int q_4)] [] z) (fun a_4 y_4 hB_4 hc_4 hx_4 => wX0_barsFrom_B5 k x1 x2 z hC a_4 y_4 hB_4 hc_4 hx_4) _ _ x_4 h_4 ?_ H locs cells slots ls hP hS hB (lv_sub hl [2, 3, 4, 1, 0] rfl)
  intro H locs cells slots ls hP hS hB hl
  refine lv_iload_n hx hb dX0_barsFrom_40 rfl (lv_at hl 0 rfl) ?_
  obtain rfl := Option.some.inj hE
  exact x_iret hC hP hS hB dX0_barsFrom_41
noncomputable def fX0_unnumbered_B4 (k : Nat)  (w : XS) (a : Int32 × Int32) : Option ((Int32 × Int32) ⊕ Int32) := if (w.2.1 8 (0 : Int32).toNatClampNeg) ≤ a.2 then (some (.inr a.1)) else ((fX0_canRun w a.2).bind fun r_3 => if r_3 = 0 then (some (.inl ((a.1 ||| (0 : Int32)), (a.2 + (1 : Int32))))) else (some (.inl ((a.1 ||| ((1 : Int32) <<< (a.2 &&& 31))), (a.2 + (1 : Int32))))))
set_option maxHeartbeats 1000000 in
theorem wX0_unnumbered_B4 {p : Program} {l : Launch} {e : Env} {s : State} {m : MethodId} {args : Array Value} {below : List Frame} {meth : Method} {c : Code} {E : XE} {Q : State → Prop} (k : Nat)  (w : XS) (hC : xC E RX0 cX0_unnumbered 3 (some .int) p s m args meth c) (a : Int32 × Int32) (y : (Int32 × Int32) ⊕ Int32) (hE : fX0_unnumbered_B4 k  w a = some y) (hc : ∀ a : Int32 × Int32, y = .inl a → xW p l e rmX0_unnumbered s m args below meth c E 3 Q 0 0 4 [(0, .ref (E.2.2.1 0)), (1, .int a.1), (2, .int a.2)] [] w) (hx1 : ∀ b : Int32, y = .inr b → xW p l e rmX0_unnumbered s m args below meth c E 3 Q 0 0 41 [(1, .int b)] [] w) : xW p l e rmX0_unnumbered s m args below meth c E 3 Q 0 0 4 [(0, .ref (E.2.2.1 0)), (1, .int a.1), (2, .int a.2)] [] w := by
  intro H locs cells slots ls hP hS hB hl
  have hx := hC.1
  have hb := hC.2.1
  have hown := hC.2.2.2.2.2.1
  have hts := hC.2.2.2.2.2.2.1
  unfold fX0_unnumbered_B4 at hE
  refine lv_iload_n hx hb dX0_unnumbered_4 rfl (lv_at hl 2 rfl) ?_
  refine lv_aload_n hx hb dX0_unnumbered_5 rfl (lv_at hl 0 rfl) ?_
  refine gX_21 hC hP dX0_unnumbered_6 ?_
  refine gN_62_1 hC hP dX0_unnumbered_9 ?_
  refine lv_iconst (v := 0) hx hb dX0_unnumbered_12 (by decide) ?_
  refine x_iald hC hP (⟨by decide, rfl, rfl⟩ : xint 8 6) (i := (0 : Int32)) (by decide) dX0_unnumbered_13 ?_
  refine lv_icmp_ge (tgt := 41) hx hb dX0_unnumbered_14 (by decide) (fun c_2 => ?_) (fun c_2 => ?_)
  · have hE := ip c_2 hE
    exact hx1 _ (Option.some.inj hE).symm H locs cells slots ls hP hS hB (lv_sub hl [1] rfl)
  · have hE := iq c_2 hE
    refine lv_iload_n hx hb dX0_unnumbered_17 rfl (lv_at hl 1 rfl) ?_
    refine lv_aload_n hx hb dX0_unnumbered_18 rfl (lv_at hl 0 rfl) ?_
    refine lv_iload_n hx hb dX0_unnumbered_19 rfl (lv_at hl 2 rfl) ?_
    obtain ⟨r_3, h_3, hE⟩ := ob hE
    refine x_callV (rc1 := _) (rs1 := _) [.int a.2] (E.2.2.1 0) hC hP hS hB hl.1 (wX0_canRun w a.2 r_3 h_3) (xC.c0 hC) (xw_get E _ (k := 0) (by decide)) (cwV 1 hts lkX0_162 rfl rfl rfl cdX0_canRun ⟨Nat.le_of_ble_eq_true rfl, Nat.le_of_ble_eq_true rfl⟩) rfl rfl (lv_room (Nat.le_of_ble_eq_true rfl)) ⟨Nat.le_of_eq (Nat.zero_add _), Nat.le_of_eq (Nat.zero_add _)⟩ dX0_unnumbered_20 (fun H locs cells slots hP hS hB => ?_)
    show W p l e _ s m args below meth c H locs cells slots _ (F0 m _ ls (.int r_3 :: .int a.1 :: []))
    refine lv_if_eq (tgt := 32) hx hb dX0_unnumbered_23 (by decide) (fun c_4 => ?_) (fun c_4 => ?_)
    · have hE := ip c_4 hE
      refine lv_iconst (v := 0) hx hb dX0_unnumbered_32 (by decide) ?_
      refine lv_ior hx hb dX0_unnumbered_33 ?_
      refine lv_istore_n (lv' := [(1, .int (a.1 ||| (0 : Int32))), (0, .ref (E.2.2.1 0)), (2, .int a.2)]) hx hb dX0_unnumbered_34 rfl hl (Nat.le_of_ble_eq_true rfl) rfl (fun ls hl => ?_)
      refine lv_iinc (v := (a.2 + (1 : Int32))) (lv' := [(2, .int (a.2 + (1 : Int32))), (1, .int (a.1 ||| (0 : Int32))), (0, .ref (E.2.2.1 0))]) hx hb dX0_unnumbered_35 hl (k := 2) rfl rfl (Nat.le_of_ble_eq_true rfl) rfl (fun ls hl => ?_)
      refine lv_goto (tgt := 4) hx hb dX0_unnumbered_38 (by decide) ?_
      exact hc _ (Option.some.inj hE).symm H locs cells slots ls hP hS hB (lv_sub hl [2, 1, 0] rfl)
    · have hE := iq c_4 hE
      refine lv_iconst (v := 1) hx hb dX0_unnumbered_26 (by decide) ?_
      refine lv_iload_n hx hb dX0_unnumbered_27 rfl (lv_at hl 2 rfl) ?_
      refine lv_ishl hx hb dX0_unnumbered_28 ?_
      refine lv_goto (tgt := 33) hx hb dX0_unnumbered_29 (by decide) ?_
      refine lv_ior hx hb dX0_unnumbered_33 ?_
      refine lv_istore_n (lv' := [(1, .int (a.1 ||| ((1 : Int32) <<< (a.2 &&& 31)))), (0, .ref (E.2.2.1 0)), (2, .int a.2)]) hx hb dX0_unnumbered_34 rfl hl (Nat.le_of_ble_eq_true rfl) rfl (fun ls hl => ?_)
      refine lv_iinc (v := (a.2 + (1 : Int32))) (lv' := [(2, .int (a.2 + (1 : Int32))), (1, .int (a.1 ||| ((1 : Int32) <<< (a.2 &&& 31)))), (0, .ref (E.2.2.1 0))]) hx hb dX0_unnumbered_35 hl (k := 2) rfl rfl (Nat.le_of_ble_eq_true rfl) rfl (fun ls hl => ?_)
      refine lv_goto (tgt := 4) hx hb dX0_unnumbered_38 (by decide) ?_
      exact hc _ (Option.some.inj hE).symm H locs cells slots ls hP hS hB (lv_sub hl [2, 1, 0] rfl)
noncomputable def fX0_unnumbered (k : Nat) (z : XS)  : Option Int32 := (lpo (fX0_unnumbered_B4 k  z) k ((0 : Int32), (0 : Int32))).bind fun x_5 => some x_5
set_option maxHeartbeats 1000000 in
theorem wX0_unnumbered {l : Launch} {E : XE} (k : Nat) (z : XS)  (y : Int32) (hE : fX0_unnumbered k z  = some y) : xM l yX0_unnumbered (ws_ yX0_unnumbered cX0_unnumbered 3 (some .int)) rmX0_unnumbered E z [.ref (E.2.2.1 0)] (some (.int y)) z := by
  refine x_met (own := RX0) (by decide) rfl (Nat.le_of_ble_eq_true rfl) (fun p e s m args below meth c hC => ?_)
  intro H locs cells slots ls hP hS hB hl
  have hx := hC.1
  have hb := hC.2.1
  have hown := hC.2.2.2.2.2.1
  have hts := hC.2.2.2.2.2.2.1
  have hl : lv_has ls 3 [(0, .ref (E.2.2.1 0))] := hl
  unfold fX0_unnumbered at hE
  refine lv_iconst (v := 0) hx hb dX0_unnumbered_0 (by decide) ?_
  refine lv_istore_n (lv' := [(1, .int (0 : Int32)), (0, .ref (E.2.2.1 0))]) hx hb dX0_unnumbered_1 rfl hl (Nat.le_of_ble_eq_true rfl) rfl (fun ls hl => ?_)
  refine lv_iconst (v := 0) hx hb dX0_unnumbered_2 (by decide) ?_
  refine lv_istore_n (lv' := [(2, .int (0 : Int32)), (1, .int (0 : Int32)), (0, .ref (E.2.2.1 0))]) hx hb dX0_unnumbered_3 rfl hl (Nat.le_of_ble_eq_true rfl) rfl (fun ls hl => ?_)
  obtain ⟨x_5, h_5, hE⟩ := ob hE
  refine lpo_walk (fun p_5 : Int32 × Int32 => xW p l e rmX0_unnumbered s m args below meth c E 3 (xQ E rmX0_unnumbered below args s (some (.int y)) z) 0 0 4 [(0, .ref (E.2.2.1 0)), (1, .int p_5.1), (2, .int p_5.2)] [] z) (fun q_5 : Int32 => xW p l e rmX0_unnumbered s m args below meth c E 3 (xQ E rmX0_unnumbered below args s (some (.int y)) z) 0 0 41 [(1, .int q_5)] [] z) (fun a_5 y_5 hB_5 hc_5 hx_5 => wX0_unnumbered_B4 k  z hC a_5 y_5 hB_5 hc_5 hx_5) _ _ x_5 h_5 ?_ H locs cells slots ls hP hS hB (lv_sub hl [2, 1, 0] rfl)
  intro H locs cells slots ls hP hS hB hl
  refine lv_iload_n hx hb dX0_unnumbered_41 rfl (lv_at hl 0 rfl) ?_
  obtain rfl := Option.some.inj hE
  exact x_iret hC hP hS hB dX0_unnumbered_42
noncomputable def fX0_is (k : Nat) (z : XS) (x1 : Int32) : Option Int32 := if x1 = (2 : Int32) then ((fX0_barsFrom k z (0 : Int32) (30 : Int32)).bind fun r_7 => some r_7) else (if x1 = (3 : Int32) then ((fX0_unnumbered k z ).bind fun r_6 => some r_6) else ((fX0_in x1 (0 : Int32) (1 : Int32)).bind fun r_3 => if r_3 = 0 then (some (-2 : Int32)) else (if ib x1 190 then none else (some (z.2.1 9 x1.toNatClampNeg)))))
set_option maxHeartbeats 1000000 in
theorem wX0_is {l : Launch} {E : XE} (k : Nat) (z : XS) (x1 : Int32) (y : Int32) (hE : fX0_is k z x1 = some y) : xM l yX0_is (ws_ yX0_is cX0_is 2 (some .int)) rmX0_is E z [.ref (E.2.2.1 0), .int x1] (some (.int y)) z := by
  refine x_met (own := RX0) (by decide) rfl (Nat.le_of_ble_eq_true rfl) (fun p e s m args below meth c hC => ?_)
  intro H locs cells slots ls hP hS hB hl
  have hx := hC.1
  have hb := hC.2.1
  have hown := hC.2.2.2.2.2.1
  have hts := hC.2.2.2.2.2.2.1
  have hl : lv_has ls 2 [(0, .ref (E.2.2.1 0)), (1, .int x1)] := hl
  unfold fX0_is at hE
  refine lv_iload_n hx hb dX0_is_0 rfl (lv_at hl 1 rfl) ?_
  refine lv_iconst (v := 2) hx hb dX0_is_1 (by decide) ?_
  refine lv_icmp_ne (tgt := 15) hx hb dX0_is_2 (by decide) (fun c_1 => ?_) (fun c_1 => ?_)
  · have hE := iq c_1 hE
    refine lv_iload_n hx hb dX0_is_15 rfl (lv_at hl 1 rfl) ?_
    refine lv_iconst (v := 3) hx hb dX0_is_16 (by decide) ?_
    refine lv_icmp_ne (tgt := 27) hx hb dX0_is_17 (by decide) (fun c_2 => ?_) (fun c_2 => ?_)
    · have hE := iq c_2 hE
      refine lv_iload_n hx hb dX0_is_27 rfl (lv_at hl 1 rfl) ?_
      refine lv_iconst (v := 0) hx hb dX0_is_28 (by decide) ?_
      refine lv_iconst (v := 1) hx hb dX0_is_29 (by decide) ?_
      obtain ⟨r_3, h_3, hE⟩ := ob hE
      refine s_calli [.int x1, .int (0 : Int32), .int (1 : Int32)] hC.sC hl.1 (wX0_in x1 (0 : Int32) (1 : Int32) r_3 h_3) (va_cwS 3 hts lkX0_58 rfl rfl rfl cdX0_in ⟨Nat.le_of_ble_eq_true rfl, Nat.le_of_ble_eq_true rfl⟩) rfl rfl (lv_room (Nat.le_of_ble_eq_true rfl)) (hB0 hB) dX0_is_30 ?_
      refine lv_if_eq (tgt := 48) hx hb dX0_is_33 (by decide) (fun c_4 => ?_) (fun c_4 => ?_)
      · have hE := ip c_4 hE
        refine lv_bipush (v := -2) hx hb dX0_is_48 (by decide) ?_
        obtain rfl := Option.some.inj hE
        exact x_iret hC hP hS hB dX0_is_50
      · have hE := iq c_4 hE
        refine lv_aload_n hx hb dX0_is_36 rfl (lv_at hl 0 rfl) ?_
        refine gX_21 hC hP dX0_is_37 ?_
        refine gN_65_1 hC hP dX0_is_40 ?_
        refine lv_iload_n hx hb dX0_is_43 rfl (lv_at hl 1 rfl) ?_
        obtain ⟨c_5, hE⟩ := og hE
        refine x_iald hC hP (⟨by decide, rfl, rfl⟩ : xint 9 190) c_5 dX0_is_44 ?_
        refine lv_goto (tgt := 50) hx hb dX0_is_45 (by decide) ?_
        obtain rfl := Option.some.inj hE
        exact x_iret hC hP hS hB dX0_is_50
    · have hE := ip c_2 hE
      refine lv_aload_n hx hb dX0_is_20 rfl (lv_at hl 0 rfl) ?_
      obtain ⟨r_6, h_6, hE⟩ := ob hE
      refine x_callV (rc1 := _) (rs1 := _) [] (E.2.2.1 0) hC hP hS hB hl.1 (wX0_unnumbered k z  r_6 h_6) (xC.c0 hC) (xw_get E _ (k := 0) (by decide)) (cwV 0 hts lkX0_269 rfl rfl rfl cdX0_unnumbered ⟨Nat.le_of_ble_eq_true rfl, Nat.le_of_ble_eq_true rfl⟩) rfl rfl (lv_room (Nat.le_of_ble_eq_true rfl)) ⟨Nat.le_of_eq (Nat.zero_add _), Nat.le_of_eq (Nat.zero_add _)⟩ dX0_is_21 (fun H locs cells slots hP hS hB => ?_)
      show W p l e _ s m args below meth c H locs cells slots _ (F0 m _ ls (.int r_6 :: []))
      refine lv_goto (tgt := 50) hx hb dX0_is_24 (by decide) ?_
      obtain rfl := Option.some.inj hE
      exact x_iret hC hP hS hB dX0_is_50
  · have hE := ip c_1 hE
    refine lv_aload_n hx hb dX0_is_5 rfl (lv_at hl 0 rfl) ?_
    refine lv_iconst (v := 0) hx hb dX0_is_6 (by decide) ?_
    refine lv_bipush (v := 30) hx hb dX0_is_7 (by decide) ?_
    obtain ⟨r_7, h_7, hE⟩ := ob hE
    refine x_callV (rc1 := _) (rs1 := _) [.int (0 : Int32), .int (30 : Int32)] (E.2.2.1 0) hC hP hS hB hl.1 (wX0_barsFrom k z (0 : Int32) (30 : Int32) r_7 h_7) (xC.c0 hC) (xw_get E _ (k := 0) (by decide)) (cwV 2 hts lkX0_266 rfl rfl rfl cdX0_barsFrom ⟨Nat.le_of_ble_eq_true rfl, Nat.le_of_ble_eq_true rfl⟩) rfl rfl (lv_room (Nat.le_of_ble_eq_true rfl)) ⟨Nat.le_of_eq (Nat.zero_add _), Nat.le_of_eq (Nat.zero_add _)⟩ dX0_is_9 (fun H locs cells slots hP hS hB => ?_)
    show W p l e _ s m args below meth c H locs cells slots _ (F0 m _ ls (.int r_7 :: []))
    refine lv_goto (tgt := 50) hx hb dX0_is_12 (by decide) ?_
    obtain rfl := Option.some.inj hE
    exact x_iret hC hP hS hB dX0_is_50
noncomputable def fX0_book (z : XS) (x1 : Int32) (x2 : Int32) : Option Int32 := if x1 = (-1 : Int32) then (some (z.2.1 9 (69 : Int32).toNatClampNeg)) else ((fX0_in x1 (0 : Int32) ((z.2.1 9 (69 : Int32).toNatClampNeg) - (1 : Int32))).bind fun r_3 => if r_3 = 0 then (some (-2 : Int32)) else ((fX0_in x2 (0 : Int32) (3 : Int32)).bind fun r_5 => if r_5 = 0 then (some (-2 : Int32)) else (if ib (((70 : Int32) + ((4 : Int32) * x1)) + x2) 190 then none else (some (z.2.1 9 (((70 : Int32) + ((4 : Int32) * x1)) + x2).toNatClampNeg)))))
set_option maxHeartbeats 1000000 in
theorem wX0_book {l : Launch} {E : XE} (z : XS) (x1 : Int32) (x2 : Int32) (y : Int32) (hE : fX0_book z x1 x2 = some y) : xM l yX0_book (ws_ yX0_book cX0_book 3 (some .int)) rmX0_book E z [.ref (E.2.2.1 0), .int x1, .int x2] (some (.int y)) z := by
  refine x_met (own := RX0) (by decide) rfl (Nat.le_of_ble_eq_true rfl) (fun p e s m args below meth c hC => ?_)
  intro H locs cells slots ls hP hS hB hl
  have hx := hC.1
  have hb := hC.2.1
  have hown := hC.2.2.2.2.2.1
  have hts := hC.2.2.2.2.2.2.1
  have hl : lv_has ls 3 [(0, .ref (E.2.2.1 0)), (1, .int x1), (2, .int x2)] := hl
  unfold fX0_book at hE
  refine lv_iload_n hx hb dX0_book_0 rfl (lv_at hl 1 rfl) ?_
  refine lv_iconst (v := -1) hx hb dX0_book_1 (by decide) ?_
  refine lv_icmp_ne (tgt := 16) hx hb dX0_book_2 (by decide) (fun c_1 => ?_) (fun c_1 => ?_)
  · have hE := iq c_1 hE
    refine lv_iload_n hx hb dX0_book_16 rfl (lv_at hl 1 rfl) ?_
    refine lv_iconst (v := 0) hx hb dX0_book_17 (by decide) ?_
    refine lv_aload_n hx hb dX0_book_18 rfl (lv_at hl 0 rfl) ?_
    refine gX_21 hC hP dX0_book_19 ?_
    refine gN_65_1 hC hP dX0_book_22 ?_
    refine lv_bipush (v := 69) hx hb dX0_book_25 (by decide) ?_
    refine x_iald hC hP (⟨by decide, rfl, rfl⟩ : xint 9 190) (i := (69 : Int32)) (by decide) dX0_book_27 ?_
    refine lv_iconst (v := 1) hx hb dX0_book_28 (by decide) ?_
    refine lv_isub hx hb dX0_book_29 ?_
    obtain ⟨r_3, h_3, hE⟩ := ob hE
    refine s_calli [.int x1, .int (0 : Int32), .int ((z.2.1 9 (69 : Int32).toNatClampNeg) - (1 : Int32))] hC.sC hl.1 (wX0_in x1 (0 : Int32) ((z.2.1 9 (69 : Int32).toNatClampNeg) - (1 : Int32)) r_3 h_3) (va_cwS 3 hts lkX0_58 rfl rfl rfl cdX0_in ⟨Nat.le_of_ble_eq_true rfl, Nat.le_of_ble_eq_true rfl⟩) rfl rfl (lv_room (Nat.le_of_ble_eq_true rfl)) (hB0 hB) dX0_book_30 ?_
    refine lv_if_eq (tgt := 64) hx hb dX0_book_33 (by decide) (fun c_4 => ?_) (fun c_4 => ?_)
    · have hE := ip c_4 hE
      refine lv_bipush (v := -2) hx hb dX0_book_64 (by decide) ?_
      obtain rfl := Option.some.inj hE
      exact x_iret hC hP hS hB dX0_book_66
    · have hE := iq c_4 hE
      refine lv_iload_n hx hb dX0_book_36 rfl (lv_at hl 2 rfl) ?_
      refine lv_iconst (v := 0) hx hb dX0_book_37 (by decide) ?_
      refine lv_iconst (v := 3) hx hb dX0_book_38 (by decide) ?_
      obtain ⟨r_5, h_5, hE⟩ := ob hE
      refine s_calli [.int x2, .int (0 : Int32), .int (3 : Int32)] hC.sC hl.1 (wX0_in x2 (0 : Int32) (3 : Int32) r_5 h_5) (va_cwS 3 hts lkX0_58 rfl rfl rfl cdX0_in ⟨Nat.le_of_ble_eq_true rfl, Nat.le_of_ble_eq_true rfl⟩) rfl rfl (lv_room (Nat.le_of_ble_eq_true rfl)) (hB0 hB) dX0_book_39 ?_
      refine lv_if_eq (tgt := 64) hx hb dX0_book_42 (by decide) (fun c_6 => ?_) (fun c_6 => ?_)
      · have hE := ip c_6 hE
        refine lv_bipush (v := -2) hx hb dX0_book_64 (by decide) ?_
        obtain rfl := Option.some.inj hE
        exact x_iret hC hP hS hB dX0_book_66
      · have hE := iq c_6 hE
        refine lv_aload_n hx hb dX0_book_45 rfl (lv_at hl 0 rfl) ?_
        refine gX_21 hC hP dX0_book_46 ?_
        refine gN_65_1 hC hP dX0_book_49 ?_
        refine lv_bipush (v := 70) hx hb dX0_book_52 (by decide) ?_
        refine lv_iconst (v := 4) hx hb dX0_book_54 (by decide) ?_
        refine lv_iload_n hx hb dX0_book_55 rfl (lv_at hl 1 rfl) ?_
        refine lv_imul hx hb dX0_book_56 ?_
        refine lv_iadd hx hb dX0_book_57 ?_
        refine lv_iload_n hx hb dX0_book_58 rfl (lv_at hl 2 rfl) ?_
        refine lv_iadd hx hb dX0_book_59 ?_
        obtain ⟨c_7, hE⟩ := og hE
        refine x_iald hC hP (⟨by decide, rfl, rfl⟩ : xint 9 190) c_7 dX0_book_60 ?_
        refine lv_goto (tgt := 66) hx hb dX0_book_61 (by decide) ?_
        obtain rfl := Option.some.inj hE
        exact x_iret hC hP hS hB dX0_book_66
  · have hE := ip c_1 hE
    refine lv_aload_n hx hb dX0_book_5 rfl (lv_at hl 0 rfl) ?_
    refine gX_21 hC hP dX0_book_6 ?_
    refine gN_65_1 hC hP dX0_book_9 ?_
    refine lv_bipush (v := 69) hx hb dX0_book_12 (by decide) ?_
    refine x_iald hC hP (⟨by decide, rfl, rfl⟩ : xint 9 190) (i := (69 : Int32)) (by decide) dX0_book_14 ?_
    obtain rfl := Option.some.inj hE
    exact x_iret hC hP hS hB dX0_book_15
noncomputable def fX0_drawn_5 (z : XS) (x1 : Int32) : Option (Int32 × XS) := if x1 = (0 : Int32) then none else nm ((z.2.1 5 (1 : Int32).toNatClampNeg) - (z.2.1 5 (1 : Int32).toNatClampNeg) / x1 * x1) fun v_3 => nm (xA z 5 (upd (z.2.1 5) (1 : Int32).toNatClampNeg ((((z.2.1 5 (1 : Int32).toNatClampNeg) * (503 : Int32)) + (389 : Int32)) - (((z.2.1 5 (1 : Int32).toNatClampNeg) * (503 : Int32)) + (389 : Int32)) / (30691 : Int32) * (30691 : Int32)))) fun z_5 => some (v_3, z_5)
set_option maxHeartbeats 1000000 in
theorem wX0_drawn_5 {l : Launch} {E : XE} (z : XS) (x1 : Int32) (y : Int32 × XS) (hE : fX0_drawn_5 z x1 = some y) : xM l yX0_drawn (ws_ yX0_drawn cX0_drawn 3 (some .int)) rmX0_drawn_5 E z [.ref (E.2.2.1 5), .int x1] (some (.int y.1)) y.2 := by
  refine x_met (own := RX0) (by decide) rfl (Nat.le_of_ble_eq_true rfl) (fun p e s m args below meth c hC => ?_)
  intro H locs cells slots ls hP hS hB hl
  have hx := hC.1
  have hb := hC.2.1
  have hown := hC.2.2.2.2.2.1
  have hts := hC.2.2.2.2.2.2.1
  have hl : lv_has ls 3 [(0, .ref (E.2.2.1 5)), (1, .int x1)] := hl
  unfold fX0_drawn_5 at hE
  refine lv_aload_n hx hb dX0_drawn_0 rfl (lv_at hl 0 rfl) ?_
  refine lv_iconst (v := 1) hx hb dX0_drawn_1 (by decide) ?_
  refine x_iald hC hP (⟨by decide, rfl, rfl⟩ : xint 5 190) (i := (1 : Int32)) (by decide) dX0_drawn_2 ?_
  refine lv_iload_n hx hb dX0_drawn_3 rfl (lv_at hl 1 rfl) ?_
  obtain ⟨c_2, hE⟩ := og hE
  refine lv_irem hx hb dX0_drawn_4 c_2 ?_
  refine nm_i hE (fun v_3 ev_3 hE => ?_)
  refine lv_istore_n (lv' := [(2, .int v_3), (0, .ref (E.2.2.1 5)), (1, .int x1)]) hx hb dX0_drawn_5 rfl hl (Nat.le_of_ble_eq_true rfl) rfl (fun ls hl => ?_)
  refine lv_aload_n hx hb dX0_drawn_6 rfl (lv_at hl 1 rfl) ?_
  refine lv_iconst (v := 1) hx hb dX0_drawn_7 (by decide) ?_
  refine lv_aload_n hx hb dX0_drawn_8 rfl (lv_at hl 1 rfl) ?_
  refine lv_iconst (v := 1) hx hb dX0_drawn_9 (by decide) ?_
  refine x_iald hC hP (⟨by decide, rfl, rfl⟩ : xint 5 190) (i := (1 : Int32)) (by decide) dX0_drawn_10 ?_
  refine lv_sipush (v := 503) hx hb dX0_drawn_11 (by decide) ?_
  refine lv_imul hx hb dX0_drawn_14 ?_
  refine lv_sipush (v := 389) hx hb dX0_drawn_15 (by decide) ?_
  refine lv_iadd hx hb dX0_drawn_18 ?_
  refine lv_sipush (v := 30691) hx hb dX0_drawn_19 (by decide) ?_
  refine lv_irem hx hb dX0_drawn_22 (by decide) ?_
  obtain ⟨z_5, ez_5, hE⟩ := on hE
  refine x_iast hC hP hS (⟨by decide, rfl, rfl⟩ : xint 5 190) (i := (1 : Int32)) (by decide) ez_5 dX0_drawn_23 (fun H locs hP hS => ?_)
  refine lv_iload_n hx hb dX0_drawn_24 rfl (lv_at hl 0 rfl) ?_
  obtain rfl := Option.some.inj hE
  exact x_iret hC hP hS hB dX0_drawn_25
noncomputable def fX0_namesOf_5 (z : XS) (x2 : Int32) : Option XS := nm (xA z 4 (upd (z.2.1 4) (0 : Int32).toNatClampNeg (z.2.1 5 (0 : Int32).toNatClampNeg))) fun z_2 => nm (xA z_2 4 (upd (z_2.2.1 4) (1 : Int32).toNatClampNeg x2)) fun z_3 => if ib ((2 : Int32) + x2) 190 then none else (nm (xA z_3 4 (upd (z_3.2.1 4) (2 : Int32).toNatClampNeg (z_3.2.1 5 ((2 : Int32) + x2).toNatClampNeg))) fun z_5 => if ib ((32 : Int32) + x2) 190 then none else (nm (xA z_5 4 (upd (z_5.2.1 4) (3 : Int32).toNatClampNeg (z_5.2.1 5 ((32 : Int32) + x2).toNatClampNeg))) fun z_7 => if ((2 : Int32) < 0 ∨ (8 : Int32) < 0 ∨ (30 : Int32) < 0 ∨ 190 < (2 : Int32).toNatClampNeg + (30 : Int32).toNatClampNeg ∨ 38 < (8 : Int32).toNatClampNeg + (30 : Int32).toNatClampNeg) then none else (nm (xA z_7 4 (va_cpy (z_7.2.1 5) (z_7.2.1 4) (2 : Int32).toNatClampNeg (8 : Int32).toNatClampNeg (30 : Int32).toNatClampNeg)) fun z_8 => some z_8)))
set_option maxHeartbeats 1000000 in
theorem wX0_namesOf_5 {l : Launch} {E : XE} (z : XS) (x2 : Int32) (y : XS) (hE : fX0_namesOf_5 z x2 = some y) : xM l yX0_namesOf (ws_ yX0_namesOf cX0_namesOf 3 none) rmX0_namesOf_5 E z [.ref (E.2.2.1 0), .ref (E.2.2.1 5), .int x2] none y := by
  refine x_met (own := RX0) (by decide) rfl (Nat.le_of_ble_eq_true rfl) (fun p e s m args below meth c hC => ?_)
  intro H locs cells slots ls hP hS hB hl
  have hx := hC.1
  have hb := hC.2.1
  have hown := hC.2.2.2.2.2.1
  have hts := hC.2.2.2.2.2.2.1
  have hl : lv_has ls 3 [(0, .ref (E.2.2.1 0)), (1, .ref (E.2.2.1 5)), (2, .int x2)] := hl
  unfold fX0_namesOf_5 at hE
  refine lv_aload_n hx hb dX0_namesOf_0 rfl (lv_at hl 0 rfl) ?_
  refine gX_39 hC hP dX0_namesOf_1 ?_
  refine lv_iconst (v := 0) hx hb dX0_namesOf_4 (by decide) ?_
  refine lv_aload_n hx hb dX0_namesOf_5 rfl (lv_at hl 1 rfl) ?_
  refine lv_iconst (v := 0) hx hb dX0_namesOf_6 (by decide) ?_
  refine x_iald hC hP (⟨by decide, rfl, rfl⟩ : xint 5 190) (i := (0 : Int32)) (by decide) dX0_namesOf_7 ?_
  obtain ⟨z_2, ez_2, hE⟩ := on hE
  refine x_iast hC hP hS (⟨by decide, rfl, rfl⟩ : xint 4 38) (i := (0 : Int32)) (by decide) ez_2 dX0_namesOf_8 (fun H locs hP hS => ?_)
  refine lv_aload_n hx hb dX0_namesOf_9 rfl (lv_at hl 0 rfl) ?_
  refine gX_39 hC hP dX0_namesOf_10 ?_
  refine lv_iconst (v := 1) hx hb dX0_namesOf_13 (by decide) ?_
  refine lv_iload_n hx hb dX0_namesOf_14 rfl (lv_at hl 2 rfl) ?_
  obtain ⟨z_3, ez_3, hE⟩ := on hE
  refine x_iast hC hP hS (⟨by decide, rfl, rfl⟩ : xint 4 38) (i := (1 : Int32)) (by decide) ez_3 dX0_namesOf_15 (fun H locs hP hS => ?_)
  refine lv_aload_n hx hb dX0_namesOf_16 rfl (lv_at hl 0 rfl) ?_
  refine gX_39 hC hP dX0_namesOf_17 ?_
  refine lv_iconst (v := 2) hx hb dX0_namesOf_20 (by decide) ?_
  refine lv_aload_n hx hb dX0_namesOf_21 rfl (lv_at hl 1 rfl) ?_
  refine lv_iconst (v := 2) hx hb dX0_namesOf_22 (by decide) ?_
  refine lv_iload_n hx hb dX0_namesOf_23 rfl (lv_at hl 2 rfl) ?_
  refine lv_iadd hx hb dX0_namesOf_24 ?_
  obtain ⟨c_4, hE⟩ := og hE
  refine x_iald hC hP (⟨by decide, rfl, rfl⟩ : xint 5 190) c_4 dX0_namesOf_25 ?_
  obtain ⟨z_5, ez_5, hE⟩ := on hE
  refine x_iast hC hP hS (⟨by decide, rfl, rfl⟩ : xint 4 38) (i := (2 : Int32)) (by decide) ez_5 dX0_namesOf_26 (fun H locs hP hS => ?_)
  refine lv_aload_n hx hb dX0_namesOf_27 rfl (lv_at hl 0 rfl) ?_
  refine gX_39 hC hP dX0_namesOf_28 ?_
  refine lv_iconst (v := 3) hx hb dX0_namesOf_31 (by decide) ?_
  refine lv_aload_n hx hb dX0_namesOf_32 rfl (lv_at hl 1 rfl) ?_
  refine lv_bipush (v := 32) hx hb dX0_namesOf_33 (by decide) ?_
  refine lv_iload_n hx hb dX0_namesOf_35 rfl (lv_at hl 2 rfl) ?_
  refine lv_iadd hx hb dX0_namesOf_36 ?_
  obtain ⟨c_6, hE⟩ := og hE
  refine x_iald hC hP (⟨by decide, rfl, rfl⟩ : xint 5 190) c_6 dX0_namesOf_37 ?_
  obtain ⟨z_7, ez_7, hE⟩ := on hE
  refine x_iast hC hP hS (⟨by decide, rfl, rfl⟩ : xint 4 38) (i := (3 : Int32)) (by decide) ez_7 dX0_namesOf_38 (fun H locs hP hS => ?_)
  refine lv_aload_n hx hb dX0_namesOf_39 rfl (lv_at hl 1 rfl) ?_
  refine lv_iconst (v := 2) hx hb dX0_namesOf_40 (by decide) ?_
  refine lv_aload_n hx hb dX0_namesOf_41 rfl (lv_at hl 0 rfl) ?_
  refine gX_39 hC hP dX0_namesOf_42 ?_
  refine lv_bipush (v := 8) hx hb dX0_namesOf_45 (by decide) ?_
  refine lv_bipush (v := 30) hx hb dX0_namesOf_47 (by decide) ?_
  obtain ⟨c_8, hE⟩ := og hE
  obtain ⟨z_8, ez_8, hE⟩ := on hE
  refine x_copy hC hP hS hl.1 (⟨by decide, rfl, rfl⟩ : xint 5 190) (⟨by decide, rfl, rfl⟩ : xint 4 38) q899 (fun h => c_8 (Or.inl h)) (fun h => c_8 (Or.inr (Or.inl h))) (fun h => c_8 (Or.inr (Or.inr (Or.inl h)))) (Nat.not_lt.mp fun h => c_8 (Or.inr (Or.inr (Or.inr (Or.inl h))))) (Nat.not_lt.mp fun h => c_8 (Or.inr (Or.inr (Or.inr (Or.inr h))))) ez_8 (Nat.le_of_ble_eq_true rfl) (by decide) dX0_namesOf_49 (fun H locs hP hS => ?_)
  obtain rfl := Option.some.inj hE
  exact x_vret hC hP hS hB dX0_namesOf_52
noncomputable def fX0_catchesBy_5 (V : XV) (z : XS) (x1 : Nat) (x3 : Int32) (x4 : Int32) (x5 : Int32) : Option (Int32 × XS) := (fX0_namesOf_5 z x4).bind fun r_1 => nm (xA r_1 4 (upd (r_1.2.1 4) (4 : Int32).toNatClampNeg x5)) fun z_2 => if ib x3 7 then none else (nm (xA z_2 4 (upd (z_2.2.1 4) (5 : Int32).toNatClampNeg (z_2.2.1 10 x3.toNatClampNeg))) fun z_4 => if ib x3 7 then none else (nm (xA z_4 4 (upd (z_4.2.1 4) (6 : Int32).toNatClampNeg (z_4.2.1 11 x3.toNatClampNeg))) fun z_6 => nm (xA z_6 4 (upd (z_6.2.1 4) (7 : Int32).toNatClampNeg x3)) fun z_7 => (fX0_law V z_7 x1 (0 : Int32) (10 : Int32)).bind fun r_8 => some (r_8, z_7)))
set_option maxHeartbeats 1000000 in
theorem wX0_catchesBy_5 {l : Launch} {E : XE} (z : XS) (x1 : Nat) (x3 : Int32) (x4 : Int32) (x5 : Int32) (y : Int32 × XS) (hE : fX0_catchesBy_5 E.2.2.2.2.2 z x1 x3 x4 x5 = some y) : xM l yX0_catchesBy (ws_ yX0_catchesBy cX0_catchesBy 6 (some .int)) rmX0_catchesBy_5 E z [.ref (E.2.2.1 0), .ref x1, .ref (E.2.2.1 5), .int x3, .int x4, .int x5] (some (.int y.1)) y.2 := by
  refine x_met (own := RX0) (by decide) rfl (Nat.le_of_ble_eq_true rfl) (fun p e s m args below meth c hC => ?_)
  intro H locs cells slots ls hP hS hB hl
  have hx := hC.1
  have hb := hC.2.1
  have hown := hC.2.2.2.2.2.1
  have hts := hC.2.2.2.2.2.2.1
  have hl : lv_has ls 6 [(0, .ref (E.2.2.1 0)), (1, .ref x1), (2, .ref (E.2.2.1 5)), (3, .int x3), (4, .int x4), (5, .int x5)] := hl
  unfold fX0_catchesBy_5 at hE
  refine lv_aload_n hx hb dX0_catchesBy_0 rfl (lv_at hl 0 rfl) ?_
  refine lv_aload_n hx hb dX0_catchesBy_1 rfl (lv_at hl 2 rfl) ?_
  refine lv_iload hx hb dX0_catchesBy_2 (lv_at hl 4 rfl) ?_
  obtain ⟨r_1, h_1, hE⟩ := ob hE
  refine x_callV (rc1 := _) (rs1 := _) [.ref (E.2.2.1 5), .int x4] (E.2.2.1 0) hC hP hS hB hl.1 (wX0_namesOf_5 z x4 r_1 h_1) (xC.c0 hC) (xw_get E _ (k := 0) (by decide)) (cwV 2 hts lkX0_137 rfl rfl rfl cdX0_namesOf ⟨Nat.le_of_ble_eq_true rfl, Nat.le_of_ble_eq_true rfl⟩) rfl rfl (lv_room (Nat.le_of_ble_eq_true rfl)) ⟨Nat.le_of_eq (Nat.zero_add _), Nat.le_of_eq (Nat.zero_add _)⟩ dX0_catchesBy_4 (fun H locs cells slots hP hS hB => ?_)
  show W p l e _ s m args below meth c H locs cells slots _ (F0 m _ ls ([]))
  refine lv_aload_n hx hb dX0_catchesBy_7 rfl (lv_at hl 0 rfl) ?_
  refine gX_39 hC hP dX0_catchesBy_8 ?_
  refine lv_iconst (v := 4) hx hb dX0_catchesBy_11 (by decide) ?_
  refine lv_iload hx hb dX0_catchesBy_12 (lv_at hl 5 rfl) ?_
  obtain ⟨z_2, ez_2, hE⟩ := on hE
  refine x_iast hC hP hS (⟨by decide, rfl, rfl⟩ : xint 4 38) (i := (4 : Int32)) (by decide) ez_2 dX0_catchesBy_14 (fun H locs hP hS => ?_)
  refine lv_aload_n hx hb dX0_catchesBy_15 rfl (lv_at hl 0 rfl) ?_
  refine gX_39 hC hP dX0_catchesBy_16 ?_
  refine lv_iconst (v := 5) hx hb dX0_catchesBy_19 (by decide) ?_
  refine lv_aload_n hx hb dX0_catchesBy_20 rfl (lv_at hl 0 rfl) ?_
  refine gX_21 hC hP dX0_catchesBy_21 ?_
  refine gN_76_1 hC hP dX0_catchesBy_24 ?_
  refine lv_iload_n hx hb dX0_catchesBy_27 rfl (lv_at hl 3 rfl) ?_
  obtain ⟨c_3, hE⟩ := og hE
  refine x_iald hC hP (⟨by decide, rfl, rfl⟩ : xint 10 7) c_3 dX0_catchesBy_28 ?_
  obtain ⟨z_4, ez_4, hE⟩ := on hE
  refine x_iast hC hP hS (⟨by decide, rfl, rfl⟩ : xint 4 38) (i := (5 : Int32)) (by decide) ez_4 dX0_catchesBy_29 (fun H locs hP hS => ?_)
  refine lv_aload_n hx hb dX0_catchesBy_30 rfl (lv_at hl 0 rfl) ?_
  refine gX_39 hC hP dX0_catchesBy_31 ?_
  refine lv_bipush (v := 6) hx hb dX0_catchesBy_34 (by decide) ?_
  refine lv_aload_n hx hb dX0_catchesBy_36 rfl (lv_at hl 0 rfl) ?_
  refine gX_21 hC hP dX0_catchesBy_37 ?_
  refine gN_79_1 hC hP dX0_catchesBy_40 ?_
  refine lv_iload_n hx hb dX0_catchesBy_43 rfl (lv_at hl 3 rfl) ?_
  obtain ⟨c_5, hE⟩ := og hE
  refine x_iald hC hP (⟨by decide, rfl, rfl⟩ : xint 11 7) c_5 dX0_catchesBy_44 ?_
  obtain ⟨z_6, ez_6, hE⟩ := on hE
  refine x_iast hC hP hS (⟨by decide, rfl, rfl⟩ : xint 4 38) (i := (6 : Int32)) (by decide) ez_6 dX0_catchesBy_45 (fun H locs hP hS => ?_)
  refine lv_aload_n hx hb dX0_catchesBy_46 rfl (lv_at hl 0 rfl) ?_
  refine gX_39 hC hP dX0_catchesBy_47 ?_
  refine lv_bipush (v := 7) hx hb dX0_catchesBy_50 (by decide) ?_
  refine lv_iload_n hx hb dX0_catchesBy_52 rfl (lv_at hl 3 rfl) ?_
  obtain ⟨z_7, ez_7, hE⟩ := on hE
  refine x_iast hC hP hS (⟨by decide, rfl, rfl⟩ : xint 4 38) (i := (7 : Int32)) (by decide) ez_7 dX0_catchesBy_53 (fun H locs hP hS => ?_)
  refine lv_aload_n hx hb dX0_catchesBy_54 rfl (lv_at hl 0 rfl) ?_
  refine lv_aload_n hx hb dX0_catchesBy_55 rfl (lv_at hl 1 rfl) ?_
  refine lv_iconst (v := 0) hx hb dX0_catchesBy_56 (by decide) ?_
  refine lv_bipush (v := 10) hx hb dX0_catchesBy_57 (by decide) ?_
  obtain ⟨r_8, h_8, hE⟩ := ob hE
  refine x_callV (rc1 := _) (rs1 := _) [.ref x1, .int (0 : Int32), .int (10 : Int32)] (E.2.2.1 0) hC hP hS hB hl.1 (wX0_law z_7 x1 (0 : Int32) (10 : Int32) r_8 h_8) (xC.c0 hC) (xw_get E _ (k := 0) (by decide)) (cwV 3 hts lkX0_141 rfl rfl rfl cdX0_law ⟨Nat.le_of_ble_eq_true rfl, Nat.le_of_ble_eq_true rfl⟩) rfl rfl (lv_room (Nat.le_of_ble_eq_true rfl)) ⟨Nat.le_of_eq (Nat.zero_add _), Nat.le_of_eq (Nat.zero_add _)⟩ dX0_catchesBy_59 (fun H locs cells slots hP hS hB => ?_)
  show W p l e _ s m args below meth c H locs cells slots _ (F0 m _ ls (.int r_8 :: []))
  obtain rfl := Option.some.inj hE
  exact x_iret hC hP hS hB dX0_catchesBy_62
noncomputable def fX0_writes_5_J28 (z : XS) (x1 : Int32) (x2 : Int32) (x3 : Int32) : Option (XS) := nm (upd (fun _ => 0) (0 : Int32).toNatClampNeg (z.2.1 5 (0 : Int32).toNatClampNeg)) fun f_5 => nm (upd f_5 (1 : Int32).toNatClampNeg x1) fun f_6 => nm (upd f_6 (2 : Int32).toNatClampNeg x2) fun f_7 => nm (upd f_7 (3 : Int32).toNatClampNeg x3) fun f_8 => if ((0 : Int32) < 0 ∨ ((70 : Int32) + ((4 : Int32) * (z.2.1 5 (69 : Int32).toNatClampNeg))) < 0 ∨ (4 : Int32) < 0 ∨ 4 < (0 : Int32).toNatClampNeg + (4 : Int32).toNatClampNeg ∨ 190 < ((70 : Int32) + ((4 : Int32) * (z.2.1 5 (69 : Int32).toNatClampNeg))).toNatClampNeg + (4 : Int32).toNatClampNeg) then none else (nm (xA z 5 (va_cpy f_8 (z.2.1 5) (0 : Int32).toNatClampNeg ((70 : Int32) + ((4 : Int32) * (z.2.1 5 (69 : Int32).toNatClampNeg))).toNatClampNeg (4 : Int32).toNatClampNeg)) fun z_10 => nm (xA z_10 5 (upd (z_10.2.1 5) (69 : Int32).toNatClampNeg ((z_10.2.1 5 (69 : Int32).toNatClampNeg) + (1 : Int32)))) fun z_12 => some z_12)
set_option maxHeartbeats 1000000 in
theorem wX0_writes_5_J28 {p : Program} {l : Launch} {e : Env} {s : State} {m : MethodId} {args : Array Value} {below : List Frame} {meth : Method} {c : Code} {E : XE} (z : XS) (x1 : Int32) (x2 : Int32) (x3 : Int32) (hC : xC E RX0 cX0_writes 5 none p s m args meth c) (y : XS) (hE : fX0_writes_5_J28 z x1 x2 x3 = some y) : xW p l e rmX0_writes_5 s m args below meth c E 5 (xQ E rmX0_writes_5 below args s none y) 1 4 28 [(0, .ref (E.2.2.1 5)), (1, .int x1), (2, .int x2), (3, .int x3)] [] z := by
  intro H locs cells slots ls hP hS hB hl
  have hx := hC.1
  have hb := hC.2.1
  have hown := hC.2.2.2.2.2.1
  have hts := hC.2.2.2.2.2.2.1
  unfold fX0_writes_5_J28 at hE
  refine lv_iconst (v := 4) hx hb dX0_writes_28 (by decide) ?_
  refine t_new (rc1 := 0) (rs1 := 0) (n := 4) hC hP hS hB (by decide) rfl (by decide) ⟨Nat.le_of_ble_eq_true rfl, Nat.le_of_ble_eq_true rfl⟩ dX0_writes_29 (fun q_3 H cells slots hP hS hB hT => ?_)
  refine lv_dup hx hb dX0_writes_31 rfl ?_
  refine lv_iconst (v := 0) hx hb dX0_writes_32 (by decide) ?_
  refine lv_aload_n hx hb dX0_writes_33 rfl (lv_at hl 0 rfl) ?_
  refine lv_iconst (v := 0) hx hb dX0_writes_34 (by decide) ?_
  refine x_iald hC hP (⟨by decide, rfl, rfl⟩ : xint 5 190) (i := (0 : Int32)) (by decide) dX0_writes_35 ?_
  obtain ⟨f_5, ef_5, hE⟩ := on hE
  refine t_ast hC hP hS hT (i := (0 : Int32)) (by decide) ef_5 dX0_writes_36 (fun H locs hP hS hT => ?_)
  refine lv_dup hx hb dX0_writes_37 rfl ?_
  refine lv_iconst (v := 1) hx hb dX0_writes_38 (by decide) ?_
  refine lv_iload_n hx hb dX0_writes_39 rfl (lv_at hl 1 rfl) ?_
  obtain ⟨f_6, ef_6, hE⟩ := on hE
  refine t_ast hC hP hS hT (i := (1 : Int32)) (by decide) ef_6 dX0_writes_40 (fun H locs hP hS hT => ?_)
  refine lv_dup hx hb dX0_writes_41 rfl ?_
  refine lv_iconst (v := 2) hx hb dX0_writes_42 (by decide) ?_
  refine lv_iload_n hx hb dX0_writes_43 rfl (lv_at hl 2 rfl) ?_
  obtain ⟨f_7, ef_7, hE⟩ := on hE
  refine t_ast hC hP hS hT (i := (2 : Int32)) (by decide) ef_7 dX0_writes_44 (fun H locs hP hS hT => ?_)
  refine lv_dup hx hb dX0_writes_45 rfl ?_
  refine lv_iconst (v := 3) hx hb dX0_writes_46 (by decide) ?_
  refine lv_iload_n hx hb dX0_writes_47 rfl (lv_at hl 3 rfl) ?_
  obtain ⟨f_8, ef_8, hE⟩ := on hE
  refine t_ast hC hP hS hT (i := (3 : Int32)) (by decide) ef_8 dX0_writes_48 (fun H locs hP hS hT => ?_)
  refine lv_astore (lv' := [(4, .ref q_3), (0, .ref (E.2.2.1 5)), (1, .int x1), (2, .int x2), (3, .int x3)]) hx hb dX0_writes_49 hl (Nat.le_of_ble_eq_true rfl) rfl (fun ls hl => ?_)
  refine lv_aload hx hb dX0_writes_51 (lv_at hl 0 rfl) ?_
  refine lv_iconst (v := 0) hx hb dX0_writes_53 (by decide) ?_
  refine lv_aload_n hx hb dX0_writes_54 rfl (lv_at hl 1 rfl) ?_
  refine lv_bipush (v := 70) hx hb dX0_writes_55 (by decide) ?_
  refine lv_iconst (v := 4) hx hb dX0_writes_57 (by decide) ?_
  refine lv_aload_n hx hb dX0_writes_58 rfl (lv_at hl 1 rfl) ?_
  refine lv_bipush (v := 69) hx hb dX0_writes_59 (by decide) ?_
  refine x_iald hC hP (⟨by decide, rfl, rfl⟩ : xint 5 190) (i := (69 : Int32)) (by decide) dX0_writes_61 ?_
  refine lv_imul hx hb dX0_writes_62 ?_
  refine lv_iadd hx hb dX0_writes_63 ?_
  refine lv_iconst (v := 4) hx hb dX0_writes_64 (by decide) ?_
  obtain ⟨c_10, hE⟩ := og hE
  obtain ⟨z_10, ez_10, hE⟩ := on hE
  refine t_copy hC hP hS hT hl.1 (⟨by decide, rfl, rfl⟩ : xint 5 190) q899 (fun h => c_10 (Or.inl h)) (fun h => c_10 (Or.inr (Or.inl h))) (fun h => c_10 (Or.inr (Or.inr (Or.inl h)))) (Nat.not_lt.mp fun h => c_10 (Or.inr (Or.inr (Or.inr (Or.inl h))))) (Nat.not_lt.mp fun h => c_10 (Or.inr (Or.inr (Or.inr (Or.inr h))))) ez_10 (Nat.le_of_ble_eq_true rfl) (by decide) dX0_writes_65 (fun H locs hP hS => ?_)
  refine lv_aload_n hx hb dX0_writes_68 rfl (lv_at hl 1 rfl) ?_
  refine lv_bipush (v := 69) hx hb dX0_writes_69 (by decide) ?_
  refine lv_dup2_11 hx hb dX0_writes_71 rfl rfl ?_
  refine x_iald hC hP (⟨by decide, rfl, rfl⟩ : xint 5 190) (i := (69 : Int32)) (by decide) dX0_writes_72 ?_
  refine lv_iconst (v := 1) hx hb dX0_writes_73 (by decide) ?_
  refine lv_iadd hx hb dX0_writes_74 ?_
  obtain ⟨z_12, ez_12, hE⟩ := on hE
  refine x_iast hC hP hS (⟨by decide, rfl, rfl⟩ : xint 5 190) (i := (69 : Int32)) (by decide) ez_12 dX0_writes_75 (fun H locs hP hS => ?_)
  obtain rfl := Option.some.inj hE
  exact x_vret hC hP hS hB dX0_writes_76
noncomputable def fX0_writes_5 (z : XS) (x1 : Int32) (x2 : Int32) (x3 : Int32) : Option XS := if (z.2.1 5 (69 : Int32).toNatClampNeg) = (30 : Int32) then (if ((74 : Int32) < 0 ∨ (70 : Int32) < 0 ∨ (116 : Int32) < 0 ∨ 190 < (74 : Int32).toNatClampNeg + (116 : Int32).toNatClampNeg ∨ 190 < (70 : Int32).toNatClampNeg + (116 : Int32).toNatClampNeg) then none else (nm (xA z 5 (va_cpy (z.2.1 5) (z.2.1 5) (74 : Int32).toNatClampNeg (70 : Int32).toNatClampNeg (116 : Int32).toNatClampNeg)) fun z_13 => nm (xA z_13 5 (upd (z_13.2.1 5) (69 : Int32).toNatClampNeg ((z_13.2.1 5 (69 : Int32).toNatClampNeg) - (1 : Int32)))) fun z_15 => (fX0_writes_5_J28 z_15 x1 x2 x3))) else ((fX0_writes_5_J28 z x1 x2 x3))
set_option maxHeartbeats 1000000 in
theorem wX0_writes_5 {l : Launch} {E : XE} (z : XS) (x1 : Int32) (x2 : Int32) (x3 : Int32) (y : XS) (hE : fX0_writes_5 z x1 x2 x3 = some y) : xM l yX0_writes (ws_ yX0_writes cX0_writes 5 none) rmX0_writes_5 E z [.ref (E.2.2.1 5), .int x1, .int x2, .int x3] none y := by
  refine x_met (own := RX0) (by decide) rfl (Nat.le_of_ble_eq_true rfl) (fun p e s m args below meth c hC => ?_)
  intro H locs cells slots ls hP hS hB hl
  have hx := hC.1
  have hb := hC.2.1
  have hown := hC.2.2.2.2.2.1
  have hts := hC.2.2.2.2.2.2.1
  have hl : lv_has ls 5 [(0, .ref (E.2.2.1 5)), (1, .int x1), (2, .int x2), (3, .int x3)] := hl
  unfold fX0_writes_5 at hE
  refine lv_aload_n hx hb dX0_writes_0 rfl (lv_at hl 0 rfl) ?_
  refine lv_bipush (v := 69) hx hb dX0_writes_1 (by decide) ?_
  refine x_iald hC hP (⟨by decide, rfl, rfl⟩ : xint 5 190) (i := (69 : Int32)) (by decide) dX0_writes_3 ?_
  refine lv_bipush (v := 30) hx hb dX0_writes_4 (by decide) ?_
  refine lv_icmp_ne (tgt := 28) hx hb dX0_writes_6 (by decide) (fun c_2 => ?_) (fun c_2 => ?_)
  · have hE := iq c_2 hE
    exact wX0_writes_5_J28 z x1 x2 x3 hC y hE H locs cells slots ls hP hS hB hl
  · have hE := ip c_2 hE
    refine lv_aload_n hx hb dX0_writes_9 rfl (lv_at hl 0 rfl) ?_
    refine lv_bipush (v := 74) hx hb dX0_writes_10 (by decide) ?_
    refine lv_aload_n hx hb dX0_writes_12 rfl (lv_at hl 0 rfl) ?_
    refine lv_bipush (v := 70) hx hb dX0_writes_13 (by decide) ?_
    refine lv_bipush (v := 116) hx hb dX0_writes_15 (by decide) ?_
    obtain ⟨c_13, hE⟩ := og hE
    obtain ⟨z_13, ez_13, hE⟩ := on hE
    refine x_copy hC hP hS hl.1 (⟨by decide, rfl, rfl⟩ : xint 5 190) (⟨by decide, rfl, rfl⟩ : xint 5 190) q899 (fun h => c_13 (Or.inl h)) (fun h => c_13 (Or.inr (Or.inl h))) (fun h => c_13 (Or.inr (Or.inr (Or.inl h)))) (Nat.not_lt.mp fun h => c_13 (Or.inr (Or.inr (Or.inr (Or.inl h))))) (Nat.not_lt.mp fun h => c_13 (Or.inr (Or.inr (Or.inr (Or.inr h))))) ez_13 (Nat.le_of_ble_eq_true rfl) (by decide) dX0_writes_17 (fun H locs hP hS => ?_)
    refine lv_aload_n hx hb dX0_writes_20 rfl (lv_at hl 0 rfl) ?_
    refine lv_bipush (v := 69) hx hb dX0_writes_21 (by decide) ?_
    refine lv_dup2_11 hx hb dX0_writes_23 rfl rfl ?_
    refine x_iald hC hP (⟨by decide, rfl, rfl⟩ : xint 5 190) (i := (69 : Int32)) (by decide) dX0_writes_24 ?_
    refine lv_iconst (v := 1) hx hb dX0_writes_25 (by decide) ?_
    refine lv_isub hx hb dX0_writes_26 ?_
    obtain ⟨z_15, ez_15, hE⟩ := on hE
    refine x_iast hC hP hS (⟨by decide, rfl, rfl⟩ : xint 5 190) (i := (69 : Int32)) (by decide) ez_15 dX0_writes_27 (fun H locs hP hS => ?_)
    exact wX0_writes_5_J28 z_15 x1 x2 x3 hC y hE H locs cells slots ls hP hS hB hl
noncomputable def fX0_runs_5_J91 (k : Nat) (V : XV) (z : XS) (v2 : Int32) (v3 : Int32) (x4 : Int32) (x6 : Int32) (t0 : Int32) : Option ((Int32 × Int32 × Int32 × XS) ⊕ (Int32 × XS)) := some (.inl (x4, t0, (x6 + (1 : Int32)), z))
set_option maxHeartbeats 1000000 in
theorem wX0_runs_5_J91 {p : Program} {l : Launch} {e : Env} {s : State} {m : MethodId} {args : Array Value} {below : List Frame} {meth : Method} {c : Code} {E : XE} {Q : State → Prop} (k : Nat) (z : XS) (v2 : Int32) (v3 : Int32) (x4 : Int32) (x6 : Int32) (t0 : Int32) (hC : xC E RX0 cX0_runs 8 (some .int) p s m args meth c) (y : (Int32 × Int32 × Int32 × XS) ⊕ (Int32 × XS)) (hE : fX0_runs_5_J91 k E.2.2.2.2.2 z v2 v3 x4 x6 t0 = some y) (hc : ∀ a : Int32 × Int32 × Int32 × XS, y = .inl a → xW p l e rmX0_runs_5 s m args below meth c E 8 Q 1 4 9 [(0, .ref (E.2.2.1 0)), (1, .ref (E.2.2.1 5)), (2, .int v2), (3, .int v3), (4, .int a.1), (5, .int a.2.1), (6, .int a.2.2.1)] [] a.2.2.2) (hx1 : ∀ b : Int32 × XS, y = .inr b → xW p l e rmX0_runs_5 s m args below meth c E 8 Q 1 4 99 [(1, .ref (E.2.2.1 5)), (2, .int v2), (3, .int v3), (4, .int b.1)] [] b.2) : xW p l e rmX0_runs_5 s m args below meth c E 8 Q 1 4 91 [(0, .ref (E.2.2.1 0)), (1, .ref (E.2.2.1 5)), (2, .int v2), (3, .int v3), (4, .int x4), (6, .int x6)] [.int t0] z := by
  intro H locs cells slots ls hP hS hB hl
  have hx := hC.1
  have hb := hC.2.1
  have hown := hC.2.2.2.2.2.1
  have hts := hC.2.2.2.2.2.2.1
  unfold fX0_runs_5_J91 at hE
  refine lv_istore (lv' := [(5, .int t0), (0, .ref (E.2.2.1 0)), (1, .ref (E.2.2.1 5)), (2, .int v2), (3, .int v3), (4, .int x4), (6, .int x6)]) hx hb dX0_runs_91 hl (Nat.le_of_ble_eq_true rfl) rfl (fun ls hl => ?_)
  refine lv_iinc (v := (x6 + (1 : Int32))) (lv' := [(6, .int (x6 + (1 : Int32))), (5, .int t0), (0, .ref (E.2.2.1 0)), (1, .ref (E.2.2.1 5)), (2, .int v2), (3, .int v3), (4, .int x4)]) hx hb dX0_runs_93 hl (k := 6) rfl rfl (Nat.le_of_ble_eq_true rfl) rfl (fun ls hl => ?_)
  refine lv_goto (tgt := 9) hx hb dX0_runs_96 (by decide) ?_
  exact hc _ (Option.some.inj hE).symm H locs cells slots ls hP hS hB (lv_sub hl [2, 3, 4, 5, 6, 1, 0] rfl)
noncomputable def fX0_runs_5_J45 (k : Nat) (V : XV) (z : XS) (v2 : Int32) (v3 : Int32) (x4 : Int32) (x6 : Int32) (x7 : Int32) (t0 : Int32) : Option ((Int32 × Int32 × Int32 × XS) ⊕ (Int32 × XS)) := if ib ((2 : Int32) + x7) 190 then none else (if (z.2.1 5 ((2 : Int32) + x7).toNatClampNeg) = (1 : Int32) then ((fX0_drawn_5 z (10 : Int32)).bind fun r_8 => (fX0_rules V r_8.2 ).bind fun r_9 => (fX0_catchesBy_5 V r_8.2 r_9 v2 x7 (x4 + (1 : Int32))).bind fun r_10 => if r_8.1 < r_10.1 then ((fX0_runs_5_J91 k V r_10.2 v2 v3 (x4 + (1 : Int32)) x6 (0 : Int32))) else ((fX0_runs_5_J91 k V r_10.2 v2 v3 (x4 + (1 : Int32)) x6 (1 : Int32)))) else (some (.inl (x4, t0, (x6 + (1 : Int32)), z))))
set_option maxHeartbeats 1000000 in
theorem wX0_runs_5_J45 {p : Program} {l : Launch} {e : Env} {s : State} {m : MethodId} {args : Array Value} {below : List Frame} {meth : Method} {c : Code} {E : XE} {Q : State → Prop} (k : Nat) (z : XS) (v2 : Int32) (v3 : Int32) (x4 : Int32) (x6 : Int32) (x7 : Int32) (t0 : Int32) (hC : xC E RX0 cX0_runs 8 (some .int) p s m args meth c) (y : (Int32 × Int32 × Int32 × XS) ⊕ (Int32 × XS)) (hE : fX0_runs_5_J45 k E.2.2.2.2.2 z v2 v3 x4 x6 x7 t0 = some y) (hc : ∀ a : Int32 × Int32 × Int32 × XS, y = .inl a → xW p l e rmX0_runs_5 s m args below meth c E 8 Q 1 4 9 [(0, .ref (E.2.2.1 0)), (1, .ref (E.2.2.1 5)), (2, .int v2), (3, .int v3), (4, .int a.1), (5, .int a.2.1), (6, .int a.2.2.1)] [] a.2.2.2) (hx1 : ∀ b : Int32 × XS, y = .inr b → xW p l e rmX0_runs_5 s m args below meth c E 8 Q 1 4 99 [(1, .ref (E.2.2.1 5)), (2, .int v2), (3, .int v3), (4, .int b.1)] [] b.2) : xW p l e rmX0_runs_5 s m args below meth c E 8 Q 1 4 45 [(0, .ref (E.2.2.1 0)), (1, .ref (E.2.2.1 5)), (2, .int v2), (3, .int v3), (4, .int x4), (6, .int x6), (7, .int x7)] [.int t0] z := by
  intro H locs cells slots ls hP hS hB hl
  have hx := hC.1
  have hb := hC.2.1
  have hown := hC.2.2.2.2.2.1
  have hts := hC.2.2.2.2.2.2.1
  unfold fX0_runs_5_J45 at hE
  refine lv_istore (lv' := [(5, .int t0), (0, .ref (E.2.2.1 0)), (1, .ref (E.2.2.1 5)), (2, .int v2), (3, .int v3), (4, .int x4), (6, .int x6), (7, .int x7)]) hx hb dX0_runs_45 hl (Nat.le_of_ble_eq_true rfl) rfl (fun ls hl => ?_)
  refine lv_aload_n hx hb dX0_runs_47 rfl (lv_at hl 2 rfl) ?_
  refine lv_iconst (v := 2) hx hb dX0_runs_48 (by decide) ?_
  refine lv_iload hx hb dX0_runs_49 (lv_at hl 7 rfl) ?_
  refine lv_iadd hx hb dX0_runs_51 ?_
  obtain ⟨c_6, hE⟩ := og hE
  refine x_iald hC hP (⟨by decide, rfl, rfl⟩ : xint 5 190) c_6 dX0_runs_52 ?_
  refine lv_iconst (v := 1) hx hb dX0_runs_53 (by decide) ?_
  refine lv_icmp_eq (tgt := 60) hx hb dX0_runs_54 (by decide) (fun c_7 => ?_) (fun c_7 => ?_)
  · have hE := ip c_7 hE
    refine lv_iinc (v := (x4 + (1 : Int32))) (lv' := [(4, .int (x4 + (1 : Int32))), (5, .int t0), (0, .ref (E.2.2.1 0)), (1, .ref (E.2.2.1 5)), (2, .int v2), (3, .int v3), (6, .int x6), (7, .int x7)]) hx hb dX0_runs_60 hl (k := 5) rfl rfl (Nat.le_of_ble_eq_true rfl) rfl (fun ls hl => ?_)
    refine lv_aload_n hx hb dX0_runs_63 rfl (lv_at hl 3 rfl) ?_
    refine lv_bipush (v := 10) hx hb dX0_runs_64 (by decide) ?_
    obtain ⟨r_8, h_8, hE⟩ := ob hE
    refine x_callS (rc1 := _) (rs1 := _) [.ref (E.2.2.1 5), .int (10 : Int32)] hC hP hS hB hl.1 (wX0_drawn_5 z (10 : Int32) r_8 h_8) (va_cwS 2 hts lkX0_147 rfl rfl rfl cdX0_drawn ⟨Nat.le_of_ble_eq_true rfl, Nat.le_of_ble_eq_true rfl⟩) rfl rfl (lv_room (Nat.le_of_ble_eq_true rfl)) ⟨Nat.le_of_eq (Nat.zero_add _), Nat.le_of_eq (Nat.zero_add _)⟩ dX0_runs_66 (fun H locs cells slots hP hS hB => ?_)
    show W p l e _ s m args below meth c H locs cells slots _ (F0 m _ ls (.int r_8.1 :: []))
    refine lv_aload_n hx hb dX0_runs_69 rfl (lv_at hl 2 rfl) ?_
    refine lv_aload_n hx hb dX0_runs_70 rfl (lv_at hl 2 rfl) ?_
    obtain ⟨r_9, h_9, hE⟩ := ob hE
    refine x_callV (rc1 := _) (rs1 := _) [] (E.2.2.1 0) hC hP hS hB hl.1 (wX0_rules r_8.2  r_9 h_9) (xC.c0 hC) (xw_get E _ (k := 0) (by decide)) (cwV 0 hts lkX0_144 rfl rfl rfl cdX0_rules ⟨Nat.le_of_ble_eq_true rfl, Nat.le_of_ble_eq_true rfl⟩) rfl rfl (lv_room (Nat.le_of_ble_eq_true rfl)) ⟨Nat.le_of_eq (Nat.zero_add _), Nat.le_of_eq (Nat.zero_add _)⟩ dX0_runs_71 (fun H locs cells slots hP hS hB => ?_)
    show W p l e _ s m args below meth c H locs cells slots _ (F0 m _ ls (.ref r_9 :: .ref (E.2.2.1 0) :: .int r_8.1 :: []))
    refine lv_aload_n hx hb dX0_runs_74 rfl (lv_at hl 3 rfl) ?_
    refine lv_iload_n hx hb dX0_runs_75 rfl (lv_at hl 4 rfl) ?_
    refine lv_iload hx hb dX0_runs_76 (lv_at hl 7 rfl) ?_
    refine lv_iload hx hb dX0_runs_78 (lv_at hl 0 rfl) ?_
    obtain ⟨r_10, h_10, hE⟩ := ob hE
    refine x_callV (rc1 := _) (rs1 := _) [.ref r_9, .ref (E.2.2.1 5), .int v2, .int x7, .int (x4 + (1 : Int32))] (E.2.2.1 0) hC hP hS hB hl.1 (wX0_catchesBy_5 r_8.2 r_9 v2 x7 (x4 + (1 : Int32)) r_10 h_10) (xC.c0 hC) (xw_get E _ (k := 0) (by decide)) (cwV 5 hts lkX0_151 rfl rfl rfl cdX0_catchesBy ⟨Nat.le_of_ble_eq_true rfl, Nat.le_of_ble_eq_true rfl⟩) rfl rfl (lv_room (Nat.le_of_ble_eq_true rfl)) ⟨Nat.le_of_eq (Nat.zero_add _), Nat.le_of_eq (Nat.zero_add _)⟩ dX0_runs_80 (fun H locs cells slots hP hS hB => ?_)
    show W p l e _ s m args below meth c H locs cells slots _ (F0 m _ ls (.int r_10.1 :: .int r_8.1 :: []))
    refine lv_icmp_lt (tgt := 90) hx hb dX0_runs_83 (by decide) (fun c_11 => ?_) (fun c_11 => ?_)
    · have hE := ip c_11 hE
      refine lv_iconst (v := 0) hx hb dX0_runs_90 (by decide) ?_
      exact wX0_runs_5_J91 k r_10.2 v2 v3 (x4 + (1 : Int32)) x6 (0 : Int32) hC y hE hc hx1 H locs cells slots ls hP hS hB (lv_sub hl [2, 3, 4, 5, 0, 6] rfl)
    · have hE := iq c_11 hE
      refine lv_iconst (v := 1) hx hb dX0_runs_86 (by decide) ?_
      refine lv_goto (tgt := 91) hx hb dX0_runs_87 (by decide) ?_
      exact wX0_runs_5_J91 k r_10.2 v2 v3 (x4 + (1 : Int32)) x6 (1 : Int32) hC y hE hc hx1 H locs cells slots ls hP hS hB (lv_sub hl [2, 3, 4, 5, 0, 6] rfl)
  · have hE := iq c_7 hE
    refine lv_goto (tgt := 93) hx hb dX0_runs_57 (by decide) ?_
    refine lv_iinc (v := (x6 + (1 : Int32))) (lv' := [(6, .int (x6 + (1 : Int32))), (5, .int t0), (0, .ref (E.2.2.1 0)), (1, .ref (E.2.2.1 5)), (2, .int v2), (3, .int v3), (4, .int x4), (7, .int x7)]) hx hb dX0_runs_93 hl (k := 6) rfl rfl (Nat.le_of_ble_eq_true rfl) rfl (fun ls hl => ?_)
    refine lv_goto (tgt := 9) hx hb dX0_runs_96 (by decide) ?_
    exact hc _ (Option.some.inj hE).symm H locs cells slots ls hP hS hB (lv_sub hl [2, 3, 4, 5, 6, 1, 0] rfl)
noncomputable def fX0_runs_5_B9 (k : Nat) (V : XV) (v2 : Int32) (v3 : Int32) (a : Int32 × Int32 × Int32 × XS) : Option ((Int32 × Int32 × Int32 × XS) ⊕ (Int32 × XS)) := if (60 : Int32) ≤ a.2.2.1 then (some (.inr (a.1, a.2.2.2))) else (if a.2.1 = 0 then (some (.inr (a.1, a.2.2.2))) else (nm ((v3 + a.2.2.1) - (v3 + a.2.2.1) / (30 : Int32) * (30 : Int32)) fun v_3 => if ib ((2 : Int32) + v_3) 190 then none else (if (a.2.2.2.2.1 5 ((2 : Int32) + v_3).toNatClampNeg) = (3 : Int32) then ((fX0_runs_5_J45 k V a.2.2.2 v2 v3 a.1 a.2.2.1 v_3 (0 : Int32))) else ((fX0_runs_5_J45 k V a.2.2.2 v2 v3 a.1 a.2.2.1 v_3 (1 : Int32))))))
set_option maxHeartbeats 1000000 in
theorem wX0_runs_5_B9 {p : Program} {l : Launch} {e : Env} {s : State} {m : MethodId} {args : Array Value} {below : List Frame} {meth : Method} {c : Code} {E : XE} {Q : State → Prop} (k : Nat) (v2 : Int32) (v3 : Int32) (hC : xC E RX0 cX0_runs 8 (some .int) p s m args meth c) (a : Int32 × Int32 × Int32 × XS) (y : (Int32 × Int32 × Int32 × XS) ⊕ (Int32 × XS)) (hE : fX0_runs_5_B9 k E.2.2.2.2.2 v2 v3 a = some y) (hc : ∀ a : Int32 × Int32 × Int32 × XS, y = .inl a → xW p l e rmX0_runs_5 s m args below meth c E 8 Q 1 4 9 [(0, .ref (E.2.2.1 0)), (1, .ref (E.2.2.1 5)), (2, .int v2), (3, .int v3), (4, .int a.1), (5, .int a.2.1), (6, .int a.2.2.1)] [] a.2.2.2) (hx1 : ∀ b : Int32 × XS, y = .inr b → xW p l e rmX0_runs_5 s m args below meth c E 8 Q 1 4 99 [(1, .ref (E.2.2.1 5)), (2, .int v2), (3, .int v3), (4, .int b.1)] [] b.2) : xW p l e rmX0_runs_5 s m args below meth c E 8 Q 1 4 9 [(0, .ref (E.2.2.1 0)), (1, .ref (E.2.2.1 5)), (2, .int v2), (3, .int v3), (4, .int a.1), (5, .int a.2.1), (6, .int a.2.2.1)] [] a.2.2.2 := by
  intro H locs cells slots ls hP hS hB hl
  have hx := hC.1
  have hb := hC.2.1
  have hown := hC.2.2.2.2.2.1
  have hts := hC.2.2.2.2.2.2.1
  unfold fX0_runs_5_B9 at hE
  refine lv_iload hx hb dX0_runs_9 (lv_at hl 6 rfl) ?_
  refine lv_bipush (v := 60) hx hb dX0_runs_11 (by decide) ?_
  refine lv_icmp_ge (tgt := 99) hx hb dX0_runs_13 (by decide) (fun c_1 => ?_) (fun c_1 => ?_)
  · have hE := ip c_1 hE
    exact hx1 _ (Option.some.inj hE).symm H locs cells slots ls hP hS hB (lv_sub hl [1, 2, 3, 4] rfl)
  · have hE := iq c_1 hE
    refine lv_iload hx hb dX0_runs_16 (lv_at hl 5 rfl) ?_
    refine lv_if_eq (tgt := 99) hx hb dX0_runs_18 (by decide) (fun c_2 => ?_) (fun c_2 => ?_)
    · have hE := ip c_2 hE
      exact hx1 _ (Option.some.inj hE).symm H locs cells slots ls hP hS hB (lv_sub hl [1, 2, 3, 4] rfl)
    · have hE := iq c_2 hE
      refine lv_iload_n hx hb dX0_runs_21 rfl (lv_at hl 3 rfl) ?_
      refine lv_iload hx hb dX0_runs_22 (lv_at hl 6 rfl) ?_
      refine lv_iadd hx hb dX0_runs_24 ?_
      refine lv_bipush (v := 30) hx hb dX0_runs_25 (by decide) ?_
      refine lv_irem hx hb dX0_runs_27 (by decide) ?_
      refine nm_i hE (fun v_3 ev_3 hE => ?_)
      refine lv_istore (lv' := [(7, .int v_3), (0, .ref (E.2.2.1 0)), (1, .ref (E.2.2.1 5)), (2, .int v2), (3, .int v3), (4, .int a.1), (5, .int a.2.1), (6, .int a.2.2.1)]) hx hb dX0_runs_28 hl (Nat.le_of_ble_eq_true rfl) rfl (fun ls hl => ?_)
      refine lv_aload_n hx hb dX0_runs_30 rfl (lv_at hl 2 rfl) ?_
      refine lv_iconst (v := 2) hx hb dX0_runs_31 (by decide) ?_
      refine lv_iload hx hb dX0_runs_32 (lv_at hl 0 rfl) ?_
      refine lv_iadd hx hb dX0_runs_34 ?_
      obtain ⟨c_4, hE⟩ := og hE
      refine x_iald hC hP (⟨by decide, rfl, rfl⟩ : xint 5 190) c_4 dX0_runs_35 ?_
      refine lv_iconst (v := 3) hx hb dX0_runs_36 (by decide) ?_
      refine lv_icmp_eq (tgt := 44) hx hb dX0_runs_37 (by decide) (fun c_5 => ?_) (fun c_5 => ?_)
      · have hE := ip c_5 hE
        refine lv_iconst (v := 0) hx hb dX0_runs_44 (by decide) ?_
        exact wX0_runs_5_J45 k a.2.2.2 v2 v3 a.1 a.2.2.1 v_3 (0 : Int32) hC y hE hc hx1 H locs cells slots ls hP hS hB (lv_sub hl [1, 2, 3, 4, 5, 7, 0] rfl)
      · have hE := iq c_5 hE
        refine lv_iconst (v := 1) hx hb dX0_runs_40 (by decide) ?_
        refine lv_goto (tgt := 45) hx hb dX0_runs_41 (by decide) ?_
        exact wX0_runs_5_J45 k a.2.2.2 v2 v3 a.1 a.2.2.1 v_3 (1 : Int32) hC y hE hc hx1 H locs cells slots ls hP hS hB (lv_sub hl [1, 2, 3, 4, 5, 7, 0] rfl)
noncomputable def fX0_runs_5_J99 (k : Nat) (V : XV) (z : XS) (x2 : Int32) (x3 : Int32) (x4 : Int32) : Option (Int32 × XS) := if ib ((62 : Int32) + x2) 190 then none else (nm (xA z 5 (upd (z.2.1 5) ((62 : Int32) + x2).toNatClampNeg x4)) fun z_13 => (fX0_writes_5 z_13 x2 x3 x4).bind fun r_14 => some (x4, r_14))
set_option maxHeartbeats 1000000 in
theorem wX0_runs_5_J99 {p : Program} {l : Launch} {e : Env} {s : State} {m : MethodId} {args : Array Value} {below : List Frame} {meth : Method} {c : Code} {E : XE} (k : Nat) (z : XS) (x2 : Int32) (x3 : Int32) (x4 : Int32) (hC : xC E RX0 cX0_runs 8 (some .int) p s m args meth c) (y : Int32 × XS) (hE : fX0_runs_5_J99 k E.2.2.2.2.2 z x2 x3 x4 = some y) : xW p l e rmX0_runs_5 s m args below meth c E 8 (xQ E rmX0_runs_5 below args s (some (.int y.1)) y.2) 1 4 99 [(1, .ref (E.2.2.1 5)), (2, .int x2), (3, .int x3), (4, .int x4)] [] z := by
  intro H locs cells slots ls hP hS hB hl
  have hx := hC.1
  have hb := hC.2.1
  have hown := hC.2.2.2.2.2.1
  have hts := hC.2.2.2.2.2.2.1
  unfold fX0_runs_5_J99 at hE
  refine lv_aload_n hx hb dX0_runs_99 rfl (lv_at hl 0 rfl) ?_
  refine lv_bipush (v := 62) hx hb dX0_runs_100 (by decide) ?_
  refine lv_iload_n hx hb dX0_runs_102 rfl (lv_at hl 1 rfl) ?_
  refine lv_iadd hx hb dX0_runs_103 ?_
  refine lv_iload hx hb dX0_runs_104 (lv_at hl 3 rfl) ?_
  obtain ⟨c_13, hE⟩ := og hE
  obtain ⟨z_13, ez_13, hE⟩ := on hE
  refine x_iast hC hP hS (⟨by decide, rfl, rfl⟩ : xint 5 190) c_13 ez_13 dX0_runs_106 (fun H locs hP hS => ?_)
  refine lv_aload_n hx hb dX0_runs_107 rfl (lv_at hl 0 rfl) ?_
  refine lv_iload_n hx hb dX0_runs_108 rfl (lv_at hl 1 rfl) ?_
  refine lv_iload_n hx hb dX0_runs_109 rfl (lv_at hl 2 rfl) ?_
  refine lv_iload hx hb dX0_runs_110 (lv_at hl 3 rfl) ?_
  obtain ⟨r_14, h_14, hE⟩ := ob hE
  refine x_callS (rc1 := 0) (rs1 := 0) [.ref (E.2.2.1 5), .int x2, .int x3, .int x4] hC hP hS hB hl.1 (wX0_writes_5 z_13 x2 x3 x4 r_14 h_14) (va_cwS 4 hts lkX0_155 rfl rfl rfl cdX0_writes ⟨Nat.le_of_ble_eq_true rfl, Nat.le_of_ble_eq_true rfl⟩) rfl rfl (lv_room (Nat.le_of_ble_eq_true rfl)) ⟨Nat.le_of_ble_eq_true rfl, Nat.le_of_ble_eq_true rfl⟩ dX0_runs_112 (fun H locs cells slots hP hS hB => ?_)
  show W p l e _ s m args below meth c H locs cells slots _ (F0 m _ ls ([]))
  refine lv_iload hx hb dX0_runs_115 (lv_at hl 3 rfl) ?_
  obtain rfl := Option.some.inj hE
  exact x_iret hC hP hS hB dX0_runs_117
noncomputable def fX0_runs_5 (k : Nat) (V : XV) (z : XS) (x2 : Int32) (x3 : Int32) : Option (Int32 × XS) := (lpo (fX0_runs_5_B9 k V x2 x3) k ((0 : Int32), (1 : Int32), (0 : Int32), z)).bind fun x_12 => (fX0_runs_5_J99 k V x_12.2 x2 x3 x_12.1)
set_option maxHeartbeats 1000000 in
theorem wX0_runs_5 {l : Launch} {E : XE} (k : Nat) (z : XS) (x2 : Int32) (x3 : Int32) (y : Int32 × XS) (hE : fX0_runs_5 k E.2.2.2.2.2 z x2 x3 = some y) : xM l yX0_runs (ws_ yX0_runs cX0_runs 8 (some .int)) rmX0_runs_5 E z [.ref (E.2.2.1 0), .ref (E.2.2.1 5), .int x2, .int x3] (some (.int y.1)) y.2 := by
  refine x_met (own := RX0) (by decide) rfl (Nat.le_of_ble_eq_true rfl) (fun p e s m args below meth c hC => ?_)
  intro H locs cells slots ls hP hS hB hl
  have hx := hC.1
  have hb := hC.2.1
  have hown := hC.2.2.2.2.2.1
  have hts := hC.2.2.2.2.2.2.1
  have hl : lv_has ls 8 [(0, .ref (E.2.2.1 0)), (1, .ref (E.2.2.1 5)), (2, .int x2), (3, .int x3)] := hl
  unfold fX0_runs_5 at hE
  refine lv_iconst (v := 0) hx hb dX0_runs_0 (by decide) ?_
  refine lv_istore (lv' := [(4, .int (0 : Int32)), (0, .ref (E.2.2.1 0)), (1, .ref (E.2.2.1 5)), (2, .int x2), (3, .int x3)]) hx hb dX0_runs_1 hl (Nat.le_of_ble_eq_true rfl) rfl (fun ls hl => ?_)
  refine lv_iconst (v := 1) hx hb dX0_runs_3 (by decide) ?_
  refine lv_istore (lv' := [(5, .int (1 : Int32)), (4, .int (0 : Int32)), (0, .ref (E.2.2.1 0)), (1, .ref (E.2.2.1 5)), (2, .int x2), (3, .int x3)]) hx hb dX0_runs_4 hl (Nat.le_of_ble_eq_true rfl) rfl (fun ls hl => ?_)
  refine lv_iconst (v := 0) hx hb dX0_runs_6 (by decide) ?_
  refine lv_istore (lv' := [(6, .int (0 : Int32)), (5, .int (1 : Int32)), (4, .int (0 : Int32)), (0, .ref (E.2.2.1 0)), (1, .ref (E.2.2.1 5)), (2, .int x2), (3, .int x3)]) hx hb dX0_runs_7 hl (Nat.le_of_ble_eq_true rfl) rfl (fun ls hl => ?_)
  obtain ⟨x_12, h_12, hE⟩ := ob hE
  refine lpo_walk (fun p_12 : Int32 × Int32 × Int32 × XS => xW p l e rmX0_runs_5 s m args below meth c E 8 (xQ E rmX0_runs_5 below args s (some (.int y.1)) y.2) 1 4 9 [(0, .ref (E.2.2.1 0)), (1, .ref (E.2.2.1 5)), (2, .int x2), (3, .int x3), (4, .int p_12.1), (5, .int p_12.2.1), (6, .int p_12.2.2.1)] [] p_12.2.2.2) (fun q_12 : Int32 × XS => xW p l e rmX0_runs_5 s m args below meth c E 8 (xQ E rmX0_runs_5 below args s (some (.int y.1)) y.2) 1 4 99 [(1, .ref (E.2.2.1 5)), (2, .int x2), (3, .int x3), (4, .int q_12.1)] [] q_12.2) (fun a_12 y_12 hB_12 hc_12 hx_12 => wX0_runs_5_B9 k x2 x3 hC a_12 y_12 hB_12 hc_12 hx_12) _ _ x_12 h_12 ?_ H locs cells slots ls hP hS hB (lv_sub hl [3, 4, 5, 6, 2, 1, 0] rfl)
  intro H locs cells slots ls hP hS hB hl
  exact wX0_runs_5_J99 k x_12.2 x2 x3 x_12.1 hC y hE H locs cells slots ls hP hS hB hl
noncomputable def fX0_paintsOf_5 (V : XV) (z : XS) (x2 : Int32) : Option (Int32 × XS) := (fX0_namesOf_5 z x2).bind fun r_1 => (fX0_rules V r_1 ).bind fun r_2 => (fX0_law V r_1 r_2 (1 : Int32) (9 : Int32)).bind fun r_3 => some (r_3, r_1)
set_option maxHeartbeats 1000000 in
theorem wX0_paintsOf_5 {l : Launch} {E : XE} (z : XS) (x2 : Int32) (y : Int32 × XS) (hE : fX0_paintsOf_5 E.2.2.2.2.2 z x2 = some y) : xM l yX0_paintsOf (ws_ yX0_paintsOf cX0_paintsOf 3 (some .int)) rmX0_paintsOf_5 E z [.ref (E.2.2.1 0), .ref (E.2.2.1 5), .int x2] (some (.int y.1)) y.2 := by
  refine x_met (own := RX0) (by decide) rfl (Nat.le_of_ble_eq_true rfl) (fun p e s m args below meth c hC => ?_)
  intro H locs cells slots ls hP hS hB hl
  have hx := hC.1
  have hb := hC.2.1
  have hown := hC.2.2.2.2.2.1
  have hts := hC.2.2.2.2.2.2.1
  have hl : lv_has ls 3 [(0, .ref (E.2.2.1 0)), (1, .ref (E.2.2.1 5)), (2, .int x2)] := hl
  unfold fX0_paintsOf_5 at hE
  refine lv_aload_n hx hb dX0_paintsOf_0 rfl (lv_at hl 0 rfl) ?_
  refine lv_aload_n hx hb dX0_paintsOf_1 rfl (lv_at hl 1 rfl) ?_
  refine lv_iload_n hx hb dX0_paintsOf_2 rfl (lv_at hl 2 rfl) ?_
  obtain ⟨r_1, h_1, hE⟩ := ob hE
  refine x_callV (rc1 := _) (rs1 := _) [.ref (E.2.2.1 5), .int x2] (E.2.2.1 0) hC hP hS hB hl.1 (wX0_namesOf_5 z x2 r_1 h_1) (xC.c0 hC) (xw_get E _ (k := 0) (by decide)) (cwV 2 hts lkX0_137 rfl rfl rfl cdX0_namesOf ⟨Nat.le_of_ble_eq_true rfl, Nat.le_of_ble_eq_true rfl⟩) rfl rfl (lv_room (Nat.le_of_ble_eq_true rfl)) ⟨Nat.le_of_eq (Nat.zero_add _), Nat.le_of_eq (Nat.zero_add _)⟩ dX0_paintsOf_3 (fun H locs cells slots hP hS hB => ?_)
  show W p l e _ s m args below meth c H locs cells slots _ (F0 m _ ls ([]))
  refine lv_aload_n hx hb dX0_paintsOf_6 rfl (lv_at hl 0 rfl) ?_
  refine lv_aload_n hx hb dX0_paintsOf_7 rfl (lv_at hl 0 rfl) ?_
  obtain ⟨r_2, h_2, hE⟩ := ob hE
  refine x_callV (rc1 := _) (rs1 := _) [] (E.2.2.1 0) hC hP hS hB hl.1 (wX0_rules r_1  r_2 h_2) (xC.c0 hC) (xw_get E _ (k := 0) (by decide)) (cwV 0 hts lkX0_144 rfl rfl rfl cdX0_rules ⟨Nat.le_of_ble_eq_true rfl, Nat.le_of_ble_eq_true rfl⟩) rfl rfl (lv_room (Nat.le_of_ble_eq_true rfl)) ⟨Nat.le_of_eq (Nat.zero_add _), Nat.le_of_eq (Nat.zero_add _)⟩ dX0_paintsOf_8 (fun H locs cells slots hP hS hB => ?_)
  show W p l e _ s m args below meth c H locs cells slots _ (F0 m _ ls (.ref r_2 :: .ref (E.2.2.1 0) :: []))
  refine lv_iconst (v := 1) hx hb dX0_paintsOf_11 (by decide) ?_
  refine lv_bipush (v := 9) hx hb dX0_paintsOf_12 (by decide) ?_
  obtain ⟨r_3, h_3, hE⟩ := ob hE
  refine x_callV (rc1 := _) (rs1 := _) [.ref r_2, .int (1 : Int32), .int (9 : Int32)] (E.2.2.1 0) hC hP hS hB hl.1 (wX0_law r_1 r_2 (1 : Int32) (9 : Int32) r_3 h_3) (xC.c0 hC) (xw_get E _ (k := 0) (by decide)) (cwV 3 hts lkX0_141 rfl rfl rfl cdX0_law ⟨Nat.le_of_ble_eq_true rfl, Nat.le_of_ble_eq_true rfl⟩) rfl rfl (lv_room (Nat.le_of_ble_eq_true rfl)) ⟨Nat.le_of_eq (Nat.zero_add _), Nat.le_of_eq (Nat.zero_add _)⟩ dX0_paintsOf_14 (fun H locs cells slots hP hS hB => ?_)
  show W p l e _ s m args below meth c H locs cells slots _ (F0 m _ ls (.int r_3 :: []))
  obtain rfl := Option.some.inj hE
  exact x_iret hC hP hS hB dX0_paintsOf_17
noncomputable def fX0_thickens_5_B2 (k : Nat) (V : XV)  (a : Int32 × XS) : Option ((Int32 × XS) ⊕ XS) := if (30 : Int32) ≤ a.1 then (some (.inr a.2)) else (if ib ((2 : Int32) + a.1) 190 then none else (if (a.2.2.1 5 ((2 : Int32) + a.1).toNatClampNeg) = (1 : Int32) then (if ib ((32 : Int32) + a.1) 190 then none else ((fX0_paintsOf_5 V a.2 a.1).bind fun r_5 => if ib ((32 : Int32) + a.1) 190 then none else (nm (xA r_5.2 5 (upd (r_5.2.2.1 5) ((32 : Int32) + a.1).toNatClampNeg (if ((a.2.2.1 5 ((32 : Int32) + a.1).toNatClampNeg) + r_5.1) < (9 : Int32) then ((a.2.2.1 5 ((32 : Int32) + a.1).toNatClampNeg) + r_5.1) else (9 : Int32)))) fun z_7 => some (.inl ((a.1 + (1 : Int32)), z_7))))) else (some (.inl ((a.1 + (1 : Int32)), a.2)))))
set_option maxHeartbeats 1000000 in
theorem wX0_thickens_5_B2 {p : Program} {l : Launch} {e : Env} {s : State} {m : MethodId} {args : Array Value} {below : List Frame} {meth : Method} {c : Code} {E : XE} {Q : State → Prop} (k : Nat)  (hC : xC E RX0 cX0_thickens 3 none p s m args meth c) (a : Int32 × XS) (y : (Int32 × XS) ⊕ XS) (hE : fX0_thickens_5_B2 k E.2.2.2.2.2  a = some y) (hc : ∀ a : Int32 × XS, y = .inl a → xW p l e rmX0_thickens_5 s m args below meth c E 3 Q 0 0 2 [(0, .ref (E.2.2.1 0)), (1, .ref (E.2.2.1 5)), (2, .int a.1)] [] a.2) (hx1 : ∀ b : XS, y = .inr b → xW p l e rmX0_thickens_5 s m args below meth c E 3 Q 0 0 47 [] [] b) : xW p l e rmX0_thickens_5 s m args below meth c E 3 Q 0 0 2 [(0, .ref (E.2.2.1 0)), (1, .ref (E.2.2.1 5)), (2, .int a.1)] [] a.2 := by
  intro H locs cells slots ls hP hS hB hl
  have hx := hC.1
  have hb := hC.2.1
  have hown := hC.2.2.2.2.2.1
  have hts := hC.2.2.2.2.2.2.1
  unfold fX0_thickens_5_B2 at hE
  refine lv_iload_n hx hb dX0_thickens_2 rfl (lv_at hl 2 rfl) ?_
  refine lv_bipush (v := 30) hx hb dX0_thickens_3 (by decide) ?_
  refine lv_icmp_ge (tgt := 47) hx hb dX0_thickens_5 (by decide) (fun c_1 => ?_) (fun c_1 => ?_)
  · have hE := ip c_1 hE
    exact hx1 _ (Option.some.inj hE).symm H locs cells slots ls hP hS hB (lv_sub hl [] rfl)
  · have hE := iq c_1 hE
    refine lv_aload_n hx hb dX0_thickens_8 rfl (lv_at hl 1 rfl) ?_
    refine lv_iconst (v := 2) hx hb dX0_thickens_9 (by decide) ?_
    refine lv_iload_n hx hb dX0_thickens_10 rfl (lv_at hl 2 rfl) ?_
    refine lv_iadd hx hb dX0_thickens_11 ?_
    obtain ⟨c_2, hE⟩ := og hE
    refine x_iald hC hP (⟨by decide, rfl, rfl⟩ : xint 5 190) c_2 dX0_thickens_12 ?_
    refine lv_iconst (v := 1) hx hb dX0_thickens_13 (by decide) ?_
    refine lv_icmp_ne (tgt := 41) hx hb dX0_thickens_14 (by decide) (fun c_3 => ?_) (fun c_3 => ?_)
    · have hE := iq c_3 hE
      refine lv_iinc (v := (a.1 + (1 : Int32))) (lv' := [(2, .int (a.1 + (1 : Int32))), (0, .ref (E.2.2.1 0)), (1, .ref (E.2.2.1 5))]) hx hb dX0_thickens_41 hl (k := 2) rfl rfl (Nat.le_of_ble_eq_true rfl) rfl (fun ls hl => ?_)
      refine lv_goto (tgt := 2) hx hb dX0_thickens_44 (by decide) ?_
      exact hc _ (Option.some.inj hE).symm H locs cells slots ls hP hS hB (lv_sub hl [1, 2, 0] rfl)
    · have hE := ip c_3 hE
      refine lv_aload_n hx hb dX0_thickens_17 rfl (lv_at hl 1 rfl) ?_
      refine lv_bipush (v := 32) hx hb dX0_thickens_18 (by decide) ?_
      refine lv_iload_n hx hb dX0_thickens_20 rfl (lv_at hl 2 rfl) ?_
      refine lv_iadd hx hb dX0_thickens_21 ?_
      refine lv_bipush (v := 9) hx hb dX0_thickens_22 (by decide) ?_
      refine lv_aload_n hx hb dX0_thickens_24 rfl (lv_at hl 1 rfl) ?_
      refine lv_bipush (v := 32) hx hb dX0_thickens_25 (by decide) ?_
      refine lv_iload_n hx hb dX0_thickens_27 rfl (lv_at hl 2 rfl) ?_
      refine lv_iadd hx hb dX0_thickens_28 ?_
      obtain ⟨c_4, hE⟩ := og hE
      refine x_iald hC hP (⟨by decide, rfl, rfl⟩ : xint 5 190) c_4 dX0_thickens_29 ?_
      refine lv_aload_n hx hb dX0_thickens_30 rfl (lv_at hl 0 rfl) ?_
      refine lv_aload_n hx hb dX0_thickens_31 rfl (lv_at hl 1 rfl) ?_
      refine lv_iload_n hx hb dX0_thickens_32 rfl (lv_at hl 2 rfl) ?_
      obtain ⟨r_5, h_5, hE⟩ := ob hE
      refine x_callV (rc1 := _) (rs1 := _) [.ref (E.2.2.1 5), .int a.1] (E.2.2.1 0) hC hP hS hB hl.1 (wX0_paintsOf_5 a.2 a.1 r_5 h_5) (xC.c0 hC) (xw_get E _ (k := 0) (by decide)) (cwV 2 hts lkX0_186 rfl rfl rfl cdX0_paintsOf ⟨Nat.le_of_ble_eq_true rfl, Nat.le_of_ble_eq_true rfl⟩) rfl rfl (lv_room (Nat.le_of_ble_eq_true rfl)) ⟨Nat.le_of_eq (Nat.zero_add _), Nat.le_of_eq (Nat.zero_add _)⟩ dX0_thickens_33 (fun H locs cells slots hP hS hB => ?_)
      show W p l e _ s m args below meth c H locs cells slots _ (F0 m _ ls (.int r_5.1 :: .int (a.2.2.1 5 ((32 : Int32) + a.1).toNatClampNeg) :: .int (9 : Int32) :: .int ((32 : Int32) + a.1) :: .ref (E.2.2.1 5) :: []))
      refine lv_iadd hx hb dX0_thickens_36 ?_
      refine va_mmin hx hb (hC.2.2.2.2.1.trans hl.1.symm) hown (hts _ q1056) (hts _ q455) (hts _ q135) (hts _ q456) (Nat.le_of_ble_eq_true rfl) (Nat.le_of_ble_eq_true rfl) (Nat.le_trans (Nat.le_add_right _ _) hB.1) (Nat.le_trans (Nat.le_add_right _ _) hB.2) dX0_thickens_37 ?_
      obtain ⟨c_7, hE⟩ := og hE
      obtain ⟨z_7, ez_7, hE⟩ := on hE
      refine x_iast hC hP hS (⟨by decide, rfl, rfl⟩ : xint 5 190) c_7 ez_7 dX0_thickens_40 (fun H locs hP hS => ?_)
      refine lv_iinc (v := (a.1 + (1 : Int32))) (lv' := [(2, .int (a.1 + (1 : Int32))), (0, .ref (E.2.2.1 0)), (1, .ref (E.2.2.1 5))]) hx hb dX0_thickens_41 hl (k := 2) rfl rfl (Nat.le_of_ble_eq_true rfl) rfl (fun ls hl => ?_)
      refine lv_goto (tgt := 2) hx hb dX0_thickens_44 (by decide) ?_
      exact hc _ (Option.some.inj hE).symm H locs cells slots ls hP hS hB (lv_sub hl [1, 2, 0] rfl)
noncomputable def fX0_thickens_5 (k : Nat) (V : XV) (z : XS)  : Option XS := (lpo (fX0_thickens_5_B2 k V ) k ((0 : Int32), z)).bind fun x_8 => some x_8
set_option maxHeartbeats 1000000 in
theorem wX0_thickens_5 {l : Launch} {E : XE} (k : Nat) (z : XS)  (y : XS) (hE : fX0_thickens_5 k E.2.2.2.2.2 z  = some y) : xM l yX0_thickens (ws_ yX0_thickens cX0_thickens 3 none) rmX0_thickens_5 E z [.ref (E.2.2.1 0), .ref (E.2.2.1 5)] none y := by
  refine x_met (own := RX0) (by decide) rfl (Nat.le_of_ble_eq_true rfl) (fun p e s m args below meth c hC => ?_)
  intro H locs cells slots ls hP hS hB hl
  have hx := hC.1
  have hb := hC.2.1
  have hown := hC.2.2.2.2.2.1
  have hts := hC.2.2.2.2.2.2.1
  have hl : lv_has ls 3 [(0, .ref (E.2.2.1 0)), (1, .ref (E.2.2.1 5))] := hl
  unfold fX0_thickens_5 at hE
  refine lv_iconst (v := 0) hx hb dX0_thickens_0 (by decide) ?_
  refine lv_istore_n (lv' := [(2, .int (0 : Int32)), (0, .ref (E.2.2.1 0)), (1, .ref (E.2.2.1 5))]) hx hb dX0_thickens_1 rfl hl (Nat.le_of_ble_eq_true rfl) rfl (fun ls hl => ?_)
  obtain ⟨x_8, h_8, hE⟩ := ob hE
  refine lpo_walk (fun p_8 : Int32 × XS => xW p l e rmX0_thickens_5 s m args below meth c E 3 (xQ E rmX0_thickens_5 below args s none y) 0 0 2 [(0, .ref (E.2.2.1 0)), (1, .ref (E.2.2.1 5)), (2, .int p_8.1)] [] p_8.2) (fun q_8 : XS => xW p l e rmX0_thickens_5 s m args below meth c E 3 (xQ E rmX0_thickens_5 below args s none y) 0 0 47 [] [] q_8) (fun a_8 y_8 hB_8 hc_8 hx_8 => wX0_thickens_5_B2 k  hC a_8 y_8 hB_8 hc_8 hx_8) _ _ x_8 h_8 ?_ H locs cells slots ls hP hS hB (lv_sub hl [1, 2, 0] rfl)
  intro H locs cells slots ls hP hS hB hl
  obtain rfl := Option.some.inj hE
  exact x_vret hC hP hS hB dX0_thickens_47
noncomputable def fX0_passes_5_T4 (k : Nat) (V : XV)  (a : Int32 × Int32 × XS) : Option (Option (Int32 × XS)) := if (a.2.2.2.1 8 (0 : Int32).toNatClampNeg) ≤ a.2.1 then (some (some (a.1, a.2.2))) else (some none)
set_option maxHeartbeats 1000000 in
theorem wX0_passes_5_T4 {p : Program} {l : Launch} {e : Env} {s : State} {m : MethodId} {args : Array Value} {below : List Frame} {meth : Method} {c : Code} {E : XE} {Q : State → Prop} (k : Nat)  (rcv rsv rec res : Nat) (hr : rec ≤ rcv ∧ res ≤ rsv) (hC : xC E RX0 cX0_passes 5 (some .int) p s m args meth c) (a : Int32 × Int32 × XS) (y : Option (Int32 × XS)) (hE : fX0_passes_5_T4 k E.2.2.2.2.2  a = some y) (hc : y = none → xW p l e rmX0_passes_5 s m args below meth c E 5 Q rcv rsv 17 [(0, .ref (E.2.2.1 0)), (1, .ref (E.2.2.1 5)), (2, .int a.1), (3, .int a.2.1)] [] a.2.2) (hx1 : ∀ b : Int32 × XS, y = some b → xW p l e rmX0_passes_5 s m args below meth c E 5 Q rec res 53 [(0, .ref (E.2.2.1 0)), (1, .ref (E.2.2.1 5)), (2, .int b.1)] [] b.2) : xW p l e rmX0_passes_5 s m args below meth c E 5 Q rcv rsv 4 [(0, .ref (E.2.2.1 0)), (1, .ref (E.2.2.1 5)), (2, .int a.1), (3, .int a.2.1)] [] a.2.2 := by
  intro H locs cells slots ls hP hS hB hl
  have hx := hC.1
  have hb := hC.2.1
  have hown := hC.2.2.2.2.2.1
  have hts := hC.2.2.2.2.2.2.1
  unfold fX0_passes_5_T4 at hE
  refine lv_iload_n hx hb dX0_passes_4 rfl (lv_at hl 3 rfl) ?_
  refine lv_aload_n hx hb dX0_passes_5 rfl (lv_at hl 0 rfl) ?_
  refine gX_21 hC hP dX0_passes_6 ?_
  refine gN_62_1 hC hP dX0_passes_9 ?_
  refine lv_iconst (v := 0) hx hb dX0_passes_12 (by decide) ?_
  refine x_iald hC hP (⟨by decide, rfl, rfl⟩ : xint 8 6) (i := (0 : Int32)) (by decide) dX0_passes_13 ?_
  refine lv_icmp_ge (tgt := 53) hx hb dX0_passes_14 (by decide) (fun c_2 => ?_) (fun c_2 => ?_)
  · have hE := ip c_2 hE
    exact hx1 _ (Option.some.inj hE).symm H locs cells slots ls hP hS (hBr hB hr) (lv_sub hl [0, 1, 2] rfl)
  · have hE := iq c_2 hE
    exact hc (Option.some.inj hE).symm H locs cells slots ls hP hS hB hl
noncomputable def fX0_passes_5_B4 (k : Nat) (V : XV)  (a : Int32 × Int32 × XS) : Option ((Int32 × Int32 × XS) ⊕ (Int32 × XS)) := if ib ((62 : Int32) + a.2.1) 190 then none else (if (a.2.2.2.1 5 ((62 : Int32) + a.2.1).toNatClampNeg) = (-1 : Int32) then ((fX0_drawn_5 a.2.2 (30 : Int32)).bind fun r_5 => (fX0_runs_5 k V r_5.2 a.2.1 r_5.1).bind fun r_6 => some (.inl ((a.1 + (1 : Int32)), (a.2.1 + (1 : Int32)), r_6.2))) else (some (.inl (a.1, (a.2.1 + (1 : Int32)), a.2.2))))
set_option maxHeartbeats 1000000 in
theorem wX0_passes_5_B4 {p : Program} {l : Launch} {e : Env} {s : State} {m : MethodId} {args : Array Value} {below : List Frame} {meth : Method} {c : Code} {E : XE} {Q : State → Prop} (k : Nat) (nc ns : Nat)  (rec res : Nat) (hr : rec ≤ nc ∧ res ≤ ns) (hC : xC E RX0 cX0_passes 5 (some .int) p s m args meth c) (a : Int32 × Int32 × XS) (y : (Int32 × Int32 × XS) ⊕ (Int32 × XS)) (hE : fX0_passes_5_B4 k E.2.2.2.2.2  a = some y) (hc : ∀ a : Int32 × Int32 × XS, y = .inl a → xW p l e rmX0_passes_5 s m args below meth c E 5 Q (0 + nc) (0 + ns) 4 [(0, .ref (E.2.2.1 0)), (1, .ref (E.2.2.1 5)), (2, .int a.1), (3, .int a.2.1)] [] a.2.2) (hx1 : ∀ b : Int32 × XS, y = .inr b → xW p l e rmX0_passes_5 s m args below meth c E 5 Q rec res 53 [(0, .ref (E.2.2.1 0)), (1, .ref (E.2.2.1 5)), (2, .int b.1)] [] b.2) : xW p l e rmX0_passes_5 s m args below meth c E 5 Q (1 + nc) (4 + ns) 17 [(0, .ref (E.2.2.1 0)), (1, .ref (E.2.2.1 5)), (2, .int a.1), (3, .int a.2.1)] [] a.2.2 := by
  intro H locs cells slots ls hP hS hB hl
  have hx := hC.1
  have hb := hC.2.1
  have hown := hC.2.2.2.2.2.1
  have hts := hC.2.2.2.2.2.2.1
  unfold fX0_passes_5_B4 at hE
  refine lv_aload_n hx hb dX0_passes_17 rfl (lv_at hl 1 rfl) ?_
  refine lv_bipush (v := 62) hx hb dX0_passes_18 (by decide) ?_
  refine lv_iload_n hx hb dX0_passes_20 rfl (lv_at hl 3 rfl) ?_
  refine lv_iadd hx hb dX0_passes_21 ?_
  obtain ⟨c_3, hE⟩ := og hE
  refine x_iald hC hP (⟨by decide, rfl, rfl⟩ : xint 5 190) c_3 dX0_passes_22 ?_
  refine lv_iconst (v := -1) hx hb dX0_passes_23 (by decide) ?_
  refine lv_icmp_eq (tgt := 30) hx hb dX0_passes_24 (by decide) (fun c_4 => ?_) (fun c_4 => ?_)
  · have hE := ip c_4 hE
    refine lv_aload_n hx hb dX0_passes_30 rfl (lv_at hl 0 rfl) ?_
    refine lv_aload_n hx hb dX0_passes_31 rfl (lv_at hl 1 rfl) ?_
    refine lv_iload_n hx hb dX0_passes_32 rfl (lv_at hl 3 rfl) ?_
    refine lv_aload_n hx hb dX0_passes_33 rfl (lv_at hl 1 rfl) ?_
    refine lv_bipush (v := 30) hx hb dX0_passes_34 (by decide) ?_
    obtain ⟨r_5, h_5, hE⟩ := ob hE
    refine x_callS (rc1 := _) (rs1 := _) [.ref (E.2.2.1 5), .int (30 : Int32)] hC hP hS hB hl.1 (wX0_drawn_5 a.2.2 (30 : Int32) r_5 h_5) (va_cwS 2 hts lkX0_147 rfl rfl rfl cdX0_drawn ⟨Nat.le_of_ble_eq_true rfl, Nat.le_of_ble_eq_true rfl⟩) rfl rfl (lv_room (Nat.le_of_ble_eq_true rfl)) ⟨Nat.le_of_eq (Nat.zero_add _), Nat.le_of_eq (Nat.zero_add _)⟩ dX0_passes_36 (fun H locs cells slots hP hS hB => ?_)
    show W p l e _ s m args below meth c H locs cells slots _ (F0 m _ ls (.int r_5.1 :: .int a.2.1 :: .ref (E.2.2.1 5) :: .ref (E.2.2.1 0) :: []))
    obtain ⟨r_6, h_6, hE⟩ := ob hE
    refine x_callV (rc1 := 0 + nc) (rs1 := 0 + ns) [.ref (E.2.2.1 5), .int a.2.1, .int r_5.1] (E.2.2.1 0) hC hP hS hB hl.1 (wX0_runs_5 k r_5.2 a.2.1 r_5.1 r_6 h_6) (xC.c0 hC) (xw_get E _ (k := 0) (by decide)) (cwV 3 hts lkX0_168 rfl rfl rfl cdX0_runs ⟨Nat.le_of_ble_eq_true rfl, Nat.le_of_ble_eq_true rfl⟩) rfl rfl (lv_room (Nat.le_of_ble_eq_true rfl)) ⟨hrm rfl, hrm rfl⟩ dX0_passes_39 (fun H locs cells slots hP hS hB => ?_)
    show W p l e _ s m args below meth c H locs cells slots _ (F0 m _ ls (.int r_6.1 :: []))
    refine lv_istore (lv' := [(4, .int r_6.1), (0, .ref (E.2.2.1 0)), (1, .ref (E.2.2.1 5)), (2, .int a.1), (3, .int a.2.1)]) hx hb dX0_passes_42 hl (Nat.le_of_ble_eq_true rfl) rfl (fun ls hl => ?_)
    refine lv_iinc (v := (a.1 + (1 : Int32))) (lv' := [(2, .int (a.1 + (1 : Int32))), (4, .int r_6.1), (0, .ref (E.2.2.1 0)), (1, .ref (E.2.2.1 5)), (3, .int a.2.1)]) hx hb dX0_passes_44 hl (k := 3) rfl rfl (Nat.le_of_ble_eq_true rfl) rfl (fun ls hl => ?_)
    refine lv_iinc (v := (a.2.1 + (1 : Int32))) (lv' := [(3, .int (a.2.1 + (1 : Int32))), (2, .int (a.1 + (1 : Int32))), (4, .int r_6.1), (0, .ref (E.2.2.1 0)), (1, .ref (E.2.2.1 5))]) hx hb dX0_passes_47 hl (k := 4) rfl rfl (Nat.le_of_ble_eq_true rfl) rfl (fun ls hl => ?_)
    refine lv_goto (tgt := 4) hx hb dX0_passes_50 (by decide) ?_
    exact hc _ (Option.some.inj hE).symm H locs cells slots ls hP hS hB (lv_sub hl [3, 4, 1, 0] rfl)
  · have hE := iq c_4 hE
    refine lv_goto (tgt := 47) hx hb dX0_passes_27 (by decide) ?_
    refine lv_iinc (v := (a.2.1 + (1 : Int32))) (lv' := [(3, .int (a.2.1 + (1 : Int32))), (0, .ref (E.2.2.1 0)), (1, .ref (E.2.2.1 5)), (2, .int a.1)]) hx hb dX0_passes_47 hl (k := 3) rfl rfl (Nat.le_of_ble_eq_true rfl) rfl (fun ls hl => ?_)
    refine lv_goto (tgt := 4) hx hb dX0_passes_50 (by decide) ?_
    exact hc _ (Option.some.inj hE).symm H locs cells slots ls hP hS (hBw hB (by decide) (by decide)) (lv_sub hl [1, 2, 3, 0] rfl)
noncomputable def fX0_passes_5 (k : Nat) (V : XV) (z : XS)  : Option (Int32 × XS) := (lpw (fX0_passes_5_T4 k V ) (fX0_passes_5_B4 k V ) 7 ((0 : Int32), (0 : Int32), z)).bind fun x_7 => (fX0_thickens_5 k V x_7.2 ).bind fun r_8 => nm (xA r_8 5 (upd (r_8.2.1 5) (0 : Int32).toNatClampNeg ((r_8.2.1 5 (0 : Int32).toNatClampNeg) + (1 : Int32)))) fun z_10 => some (x_7.1, z_10)
set_option maxHeartbeats 1000000 in
theorem wX0_passes_5 {l : Launch} {E : XE} (k : Nat) (z : XS)  (y : Int32 × XS) (hE : fX0_passes_5 k E.2.2.2.2.2 z  = some y) : xM l yX0_passes (ws_ yX0_passes cX0_passes 5 (some .int)) rmX0_passes_5 E z [.ref (E.2.2.1 0), .ref (E.2.2.1 5)] (some (.int y.1)) y.2 := by
  refine x_met (own := RX0) (by decide) rfl (Nat.le_of_ble_eq_true rfl) (fun p e s m args below meth c hC => ?_)
  intro H locs cells slots ls hP hS hB hl
  have hx := hC.1
  have hb := hC.2.1
  have hown := hC.2.2.2.2.2.1
  have hts := hC.2.2.2.2.2.2.1
  have hl : lv_has ls 5 [(0, .ref (E.2.2.1 0)), (1, .ref (E.2.2.1 5))] := hl
  unfold fX0_passes_5 at hE
  refine lv_iconst (v := 0) hx hb dX0_passes_0 (by decide) ?_
  refine lv_istore_n (lv' := [(2, .int (0 : Int32)), (0, .ref (E.2.2.1 0)), (1, .ref (E.2.2.1 5))]) hx hb dX0_passes_1 rfl hl (Nat.le_of_ble_eq_true rfl) rfl (fun ls hl => ?_)
  refine lv_iconst (v := 0) hx hb dX0_passes_2 (by decide) ?_
  refine lv_istore_n (lv' := [(3, .int (0 : Int32)), (2, .int (0 : Int32)), (0, .ref (E.2.2.1 0)), (1, .ref (E.2.2.1 5))]) hx hb dX0_passes_3 rfl hl (Nat.le_of_ble_eq_true rfl) rfl (fun ls hl => ?_)
  obtain ⟨x_7, h_7, hE⟩ := ob hE
  refine lpw_walk (α := Int32 × Int32 × XS) (β := (Int32 × XS)) (fun n_7 p_7 => xW p l e rmX0_passes_5 s m args below meth c E 5 (xQ E rmX0_passes_5 below args s (some (.int y.1)) y.2) (n_7 * 1 + 0) (n_7 * 4 + 0) 4 [(0, .ref (E.2.2.1 0)), (1, .ref (E.2.2.1 5)), (2, .int p_7.1), (3, .int p_7.2.1)] [] p_7.2.2) (fun n_7 p_7 => xW p l e rmX0_passes_5 s m args below meth c E 5 (xQ E rmX0_passes_5 below args s (some (.int y.1)) y.2) (1 + (n_7 * 1 + 0)) (4 + (n_7 * 4 + 0)) 17 [(0, .ref (E.2.2.1 0)), (1, .ref (E.2.2.1 5)), (2, .int p_7.1), (3, .int p_7.2.1)] [] p_7.2.2) (fun q_7 => xW p l e rmX0_passes_5 s m args below meth c E 5 (xQ E rmX0_passes_5 below args s (some (.int y.1)) y.2) 0 0 53 [(0, .ref (E.2.2.1 0)), (1, .ref (E.2.2.1 5)), (2, .int q_7.1)] [] q_7.2) (fun n_7 a_7 y_7 hB_7 hc_7 hx_7 => wX0_passes_5_T4 k  (n_7 * 1 + 0) (n_7 * 4 + 0) 0 0 ⟨Nat.le_add_left _ _, Nat.le_add_left _ _⟩ hC a_7 y_7 hB_7 (fun e_7 => ?_) hx_7) (fun n_7 a_7 y_7 hB_7 hc_7 hx_7 => wX0_passes_5_B4 k (n_7 * 1 + 0) (n_7 * 4 + 0)  0 0 ⟨Nat.le_add_left _ _, Nat.le_add_left _ _⟩ hC a_7 y_7 hB_7 (fun b_7 e_7 => by have h9 := hc_7 b_7 e_7; rw [Nat.zero_add (n_7 * 1 + 0), Nat.zero_add (n_7 * 4 + 0)]; exact h9) hx_7) 7 _ x_7 h_7 ?_ H locs cells slots ls hP hS ⟨by have := hB.1; omega, by have := hB.2; omega⟩ (lv_sub hl [2, 3, 1, 0] rfl)
  · obtain ⟨h1, h2⟩ := hc_7 e_7
    have e1 : n_7 * 1 + 0 = 1 + ((n_7 - 1) * 1 + 0) := by omega
    have e2 : n_7 * 4 + 0 = 4 + ((n_7 - 1) * 4 + 0) := by omega
    rw [e1, e2]
    exact h2
  intro H locs cells slots ls hP hS hB hl
  refine lv_aload_n hx hb dX0_passes_53 rfl (lv_at hl 0 rfl) ?_
  refine lv_aload_n hx hb dX0_passes_54 rfl (lv_at hl 1 rfl) ?_
  obtain ⟨r_8, h_8, hE⟩ := ob hE
  refine x_callV (rc1 := _) (rs1 := _) [.ref (E.2.2.1 5)] (E.2.2.1 0) hC hP hS hB hl.1 (wX0_thickens_5 k x_7.2  r_8 h_8) (xC.c0 hC) (xw_get E _ (k := 0) (by decide)) (cwV 1 hts lkX0_192 rfl rfl rfl cdX0_thickens ⟨Nat.le_of_ble_eq_true rfl, Nat.le_of_ble_eq_true rfl⟩) rfl rfl (lv_room (Nat.le_of_ble_eq_true rfl)) ⟨Nat.le_of_eq (Nat.zero_add _), Nat.le_of_eq (Nat.zero_add _)⟩ dX0_passes_55 (fun H locs cells slots hP hS hB => ?_)
  show W p l e _ s m args below meth c H locs cells slots _ (F0 m _ ls ([]))
  refine lv_aload_n hx hb dX0_passes_58 rfl (lv_at hl 1 rfl) ?_
  refine lv_iconst (v := 0) hx hb dX0_passes_59 (by decide) ?_
  refine lv_dup2_11 hx hb dX0_passes_60 rfl rfl ?_
  refine x_iald hC hP (⟨by decide, rfl, rfl⟩ : xint 5 190) (i := (0 : Int32)) (by decide) dX0_passes_61 ?_
  refine lv_iconst (v := 1) hx hb dX0_passes_62 (by decide) ?_
  refine lv_iadd hx hb dX0_passes_63 ?_
  obtain ⟨z_10, ez_10, hE⟩ := on hE
  refine x_iast hC hP hS (⟨by decide, rfl, rfl⟩ : xint 5 190) (i := (0 : Int32)) (by decide) ez_10 dX0_passes_64 (fun H locs hP hS => ?_)
  refine lv_iload_n hx hb dX0_passes_65 rfl (lv_at hl 2 rfl) ?_
  obtain rfl := Option.some.inj hE
  exact x_iret hC hP hS hB dX0_passes_66
noncomputable def fX0_foretold_T40 (k : Nat) (V : XV) (v1 : Int32) (v2 : Int32) (a : Int32 × Int32 × XS) : Option (Option XS) := if v1 ≤ a.2.1 then (some (some a.2.2)) else (if (9999 : Int32) ≤ (a.2.2.2.1 5 (0 : Int32).toNatClampNeg) then (some (some a.2.2)) else (some none))
set_option maxHeartbeats 1000000 in
theorem wX0_foretold_T40 {p : Program} {l : Launch} {e : Env} {s : State} {m : MethodId} {args : Array Value} {below : List Frame} {meth : Method} {c : Code} {E : XE} {Q : State → Prop} (k : Nat) (v1 : Int32) (v2 : Int32) (rcv rsv rec res : Nat) (hr : rec ≤ rcv ∧ res ≤ rsv) (hC : xC E RX0 cX0_foretold 5 (some .int) p s m args meth c) (a : Int32 × Int32 × XS) (y : Option XS) (hE : fX0_foretold_T40 k E.2.2.2.2.2 v1 v2 a = some y) (hc : y = none → xW p l e rmX0_foretold s m args below meth c E 5 Q rcv rsv 58 [(0, .ref (E.2.2.1 0)), (1, .int v1), (2, .int v2), (3, .int a.1), (4, .int a.2.1)] [] a.2.2) (hx1 : ∀ b : XS, y = some b → xW p l e rmX0_foretold s m args below meth c E 5 Q rec res 75 [(0, .ref (E.2.2.1 0)), (2, .int v2)] [] b) : xW p l e rmX0_foretold s m args below meth c E 5 Q rcv rsv 40 [(0, .ref (E.2.2.1 0)), (1, .int v1), (2, .int v2), (3, .int a.1), (4, .int a.2.1)] [] a.2.2 := by
  intro H locs cells slots ls hP hS hB hl
  have hx := hC.1
  have hb := hC.2.1
  have hown := hC.2.2.2.2.2.1
  have hts := hC.2.2.2.2.2.2.1
  unfold fX0_foretold_T40 at hE
  refine lv_iload hx hb dX0_foretold_40 (lv_at hl 4 rfl) ?_
  refine lv_iload_n hx hb dX0_foretold_42 rfl (lv_at hl 1 rfl) ?_
  refine lv_icmp_ge (tgt := 75) hx hb dX0_foretold_43 (by decide) (fun c_6 => ?_) (fun c_6 => ?_)
  · have hE := ip c_6 hE
    exact hx1 _ (Option.some.inj hE).symm H locs cells slots ls hP hS (hBr hB hr) (lv_sub hl [0, 2] rfl)
  · have hE := iq c_6 hE
    refine lv_aload_n hx hb dX0_foretold_46 rfl (lv_at hl 0 rfl) ?_
    refine gX_43 hC hP dX0_foretold_47 ?_
    refine lv_iconst (v := 0) hx hb dX0_foretold_50 (by decide) ?_
    refine x_iald hC hP (⟨by decide, rfl, rfl⟩ : xint 5 190) (i := (0 : Int32)) (by decide) dX0_foretold_51 ?_
    refine lv_sipush (v := 9999) hx hb dX0_foretold_52 (by decide) ?_
    refine lv_icmp_ge (tgt := 75) hx hb dX0_foretold_55 (by decide) (fun c_8 => ?_) (fun c_8 => ?_)
    · have hE := ip c_8 hE
      exact hx1 _ (Option.some.inj hE).symm H locs cells slots ls hP hS (hBr hB hr) (lv_sub hl [0, 2] rfl)
    · have hE := iq c_8 hE
      exact hc (Option.some.inj hE).symm H locs cells slots ls hP hS hB hl
noncomputable def fX0_foretold_B40 (k : Nat) (V : XV) (v1 : Int32) (v2 : Int32) (a : Int32 × Int32 × XS) : Option ((Int32 × Int32 × XS) ⊕ XS) := (fX0_passes_5 k V a.2.2 ).bind fun r_9 => some (.inl ((a.1 + r_9.1), (a.2.1 + (1 : Int32)), r_9.2))
set_option maxHeartbeats 1000000 in
theorem wX0_foretold_B40 {p : Program} {l : Launch} {e : Env} {s : State} {m : MethodId} {args : Array Value} {below : List Frame} {meth : Method} {c : Code} {E : XE} {Q : State → Prop} (k : Nat) (nc ns : Nat) (v1 : Int32) (v2 : Int32) (rec res : Nat) (hr : rec ≤ nc ∧ res ≤ ns) (hC : xC E RX0 cX0_foretold 5 (some .int) p s m args meth c) (a : Int32 × Int32 × XS) (y : (Int32 × Int32 × XS) ⊕ XS) (hE : fX0_foretold_B40 k E.2.2.2.2.2 v1 v2 a = some y) (hc : ∀ a : Int32 × Int32 × XS, y = .inl a → xW p l e rmX0_foretold s m args below meth c E 5 Q (0 + nc) (0 + ns) 40 [(0, .ref (E.2.2.1 0)), (1, .int v1), (2, .int v2), (3, .int a.1), (4, .int a.2.1)] [] a.2.2) (hx1 : ∀ b : XS, y = .inr b → xW p l e rmX0_foretold s m args below meth c E 5 Q rec res 75 [(0, .ref (E.2.2.1 0)), (2, .int v2)] [] b) : xW p l e rmX0_foretold s m args below meth c E 5 Q (7 + nc) (28 + ns) 58 [(0, .ref (E.2.2.1 0)), (1, .int v1), (2, .int v2), (3, .int a.1), (4, .int a.2.1)] [] a.2.2 := by
  intro H locs cells slots ls hP hS hB hl
  have hx := hC.1
  have hb := hC.2.1
  have hown := hC.2.2.2.2.2.1
  have hts := hC.2.2.2.2.2.2.1
  unfold fX0_foretold_B40 at hE
  refine lv_iload_n hx hb dX0_foretold_58 rfl (lv_at hl 3 rfl) ?_
  refine lv_aload_n hx hb dX0_foretold_59 rfl (lv_at hl 0 rfl) ?_
  refine lv_aload_n hx hb dX0_foretold_60 rfl (lv_at hl 0 rfl) ?_
  refine gX_43 hC hP dX0_foretold_61 ?_
  obtain ⟨r_9, h_9, hE⟩ := ob hE
  refine x_callV (rc1 := 0 + nc) (rs1 := 0 + ns) [.ref (E.2.2.1 5)] (E.2.2.1 0) hC hP hS hB hl.1 (wX0_passes_5 k a.2.2  r_9 h_9) (xC.c0 hC) (xw_get E _ (k := 0) (by decide)) (cwV 1 hts lkX0_196 rfl rfl rfl cdX0_passes ⟨Nat.le_of_ble_eq_true rfl, Nat.le_of_ble_eq_true rfl⟩) rfl rfl (lv_room (Nat.le_of_ble_eq_true rfl)) ⟨hrm rfl, hrm rfl⟩ dX0_foretold_64 (fun H locs cells slots hP hS hB => ?_)
  show W p l e _ s m args below meth c H locs cells slots _ (F0 m _ ls (.int r_9.1 :: .int a.1 :: []))
  refine lv_iadd hx hb dX0_foretold_67 ?_
  refine lv_istore_n (lv' := [(3, .int (a.1 + r_9.1)), (0, .ref (E.2.2.1 0)), (1, .int v1), (2, .int v2), (4, .int a.2.1)]) hx hb dX0_foretold_68 rfl hl (Nat.le_of_ble_eq_true rfl) rfl (fun ls hl => ?_)
  refine lv_iinc (v := (a.2.1 + (1 : Int32))) (lv' := [(4, .int (a.2.1 + (1 : Int32))), (3, .int (a.1 + r_9.1)), (0, .ref (E.2.2.1 0)), (1, .int v1), (2, .int v2)]) hx hb dX0_foretold_69 hl (k := 4) rfl rfl (Nat.le_of_ble_eq_true rfl) rfl (fun ls hl => ?_)
  refine lv_goto (tgt := 40) hx hb dX0_foretold_72 (by decide) ?_
  exact hc _ (Option.some.inj hE).symm H locs cells slots ls hP hS hB (lv_sub hl [2, 3, 4, 1, 0] rfl)
noncomputable def fX0_foretold_J75 (k : Nat) (V : XV) (z : XS) (x2 : Int32) : Option (Int32 × XS) := if ib ((62 : Int32) + x2) 190 then none else (some ((z.2.1 5 ((62 : Int32) + x2).toNatClampNeg), z))
set_option maxHeartbeats 1000000 in
theorem wX0_foretold_J75 {p : Program} {l : Launch} {e : Env} {s : State} {m : MethodId} {args : Array Value} {below : List Frame} {meth : Method} {c : Code} {E : XE} (k : Nat) (z : XS) (x2 : Int32) (hC : xC E RX0 cX0_foretold 5 (some .int) p s m args meth c) (y : Int32 × XS) (hE : fX0_foretold_J75 k E.2.2.2.2.2 z x2 = some y) : xW p l e rmX0_foretold s m args below meth c E 5 (xQ E rmX0_foretold below args s (some (.int y.1)) y.2) 0 0 75 [(0, .ref (E.2.2.1 0)), (2, .int x2)] [] z := by
  intro H locs cells slots ls hP hS hB hl
  have hx := hC.1
  have hb := hC.2.1
  have hown := hC.2.2.2.2.2.1
  have hts := hC.2.2.2.2.2.2.1
  unfold fX0_foretold_J75 at hE
  refine lv_aload_n hx hb dX0_foretold_75 rfl (lv_at hl 0 rfl) ?_
  refine gX_43 hC hP dX0_foretold_76 ?_
  refine lv_bipush (v := 62) hx hb dX0_foretold_79 (by decide) ?_
  refine lv_iload_n hx hb dX0_foretold_81 rfl (lv_at hl 1 rfl) ?_
  refine lv_iadd hx hb dX0_foretold_82 ?_
  obtain ⟨c_11, hE⟩ := og hE
  refine x_iald hC hP (⟨by decide, rfl, rfl⟩ : xint 5 190) c_11 dX0_foretold_83 ?_
  obtain rfl := Option.some.inj hE
  exact x_iret hC hP hS hB dX0_foretold_84
noncomputable def fX0_foretold (k : Nat) (V : XV) (z : XS) (x1 : Int32) (x2 : Int32) : Option (Int32 × XS) := (fX0_in x1 (1 : Int32) (60 : Int32)).bind fun r_1 => if r_1 = 0 then (some ((-2 : Int32), z)) else ((fX0_isChild z x2).bind fun r_3 => if r_3 = 0 then (some ((-2 : Int32), z)) else (nm (xA z 5 (va_cpy (z.2.1 9) (z.2.1 5) 0 0 190)) fun z_5 => (lpw (fX0_foretold_T40 k V x1 x2) (fX0_foretold_B40 k V x1 x2) 60 ((0 : Int32), (0 : Int32), z_5)).bind fun x_10 => (fX0_foretold_J75 k V x_10 x2)))
set_option maxHeartbeats 1000000 in
theorem wX0_foretold {l : Launch} {E : XE} (k : Nat) (z : XS) (x1 : Int32) (x2 : Int32) (y : Int32 × XS) (hE : fX0_foretold k E.2.2.2.2.2 z x1 x2 = some y) : xM l yX0_foretold (ws_ yX0_foretold cX0_foretold 5 (some .int)) rmX0_foretold E z [.ref (E.2.2.1 0), .int x1, .int x2] (some (.int y.1)) y.2 := by
  refine x_met (own := RX0) (by decide) rfl (Nat.le_of_ble_eq_true rfl) (fun p e s m args below meth c hC => ?_)
  intro H locs cells slots ls hP hS hB hl
  have hx := hC.1
  have hb := hC.2.1
  have hown := hC.2.2.2.2.2.1
  have hts := hC.2.2.2.2.2.2.1
  have hl : lv_has ls 5 [(0, .ref (E.2.2.1 0)), (1, .int x1), (2, .int x2)] := hl
  unfold fX0_foretold at hE
  refine lv_iload_n hx hb dX0_foretold_0 rfl (lv_at hl 1 rfl) ?_
  refine lv_iconst (v := 1) hx hb dX0_foretold_1 (by decide) ?_
  refine lv_bipush (v := 60) hx hb dX0_foretold_2 (by decide) ?_
  obtain ⟨r_1, h_1, hE⟩ := ob hE
  refine s_calli [.int x1, .int (1 : Int32), .int (60 : Int32)] hC.sC hl.1 (wX0_in x1 (1 : Int32) (60 : Int32) r_1 h_1) (va_cwS 3 hts lkX0_58 rfl rfl rfl cdX0_in ⟨Nat.le_of_ble_eq_true rfl, Nat.le_of_ble_eq_true rfl⟩) rfl rfl (lv_room (Nat.le_of_ble_eq_true rfl)) (hB0 hB) dX0_foretold_4 ?_
  refine lv_if_eq (tgt := 18) hx hb dX0_foretold_7 (by decide) (fun c_2 => ?_) (fun c_2 => ?_)
  · have hE := ip c_2 hE
    refine lv_bipush (v := -2) hx hb dX0_foretold_18 (by decide) ?_
    obtain rfl := Option.some.inj hE
    exact x_iret hC hP hS hB dX0_foretold_20
  · have hE := iq c_2 hE
    refine lv_aload_n hx hb dX0_foretold_10 rfl (lv_at hl 0 rfl) ?_
    refine lv_iload_n hx hb dX0_foretold_11 rfl (lv_at hl 2 rfl) ?_
    obtain ⟨r_3, h_3, hE⟩ := ob hE
    refine x_callV (rc1 := _) (rs1 := _) [.int x2] (E.2.2.1 0) hC hP hS hB hl.1 (wX0_isChild z x2 r_3 h_3) (xC.c0 hC) (xw_get E _ (k := 0) (by decide)) (cwV 1 hts lkX0_159 rfl rfl rfl cdX0_isChild ⟨Nat.le_of_ble_eq_true rfl, Nat.le_of_ble_eq_true rfl⟩) rfl rfl (lv_room (Nat.le_of_ble_eq_true rfl)) ⟨Nat.le_of_eq (Nat.zero_add _), Nat.le_of_eq (Nat.zero_add _)⟩ dX0_foretold_12 (fun H locs cells slots hP hS hB => ?_)
    show W p l e _ s m args below meth c H locs cells slots _ (F0 m _ ls (.int r_3 :: []))
    refine lv_if_ne (tgt := 21) hx hb dX0_foretold_15 (by decide) (fun c_4 => ?_) (fun c_4 => ?_)
    · have hE := iq c_4 hE
      refine lv_aload_n hx hb dX0_foretold_21 rfl (lv_at hl 0 rfl) ?_
      refine gX_21 hC hP dX0_foretold_22 ?_
      refine gN_65_1 hC hP dX0_foretold_25 ?_
      refine lv_aload_n hx hb dX0_foretold_28 rfl (lv_at hl 0 rfl) ?_
      refine gX_43 hC hP dX0_foretold_29 ?_
      obtain ⟨z_5, ez_5, hE⟩ := on hE
      refine x_callSN (rc1 := _) (rs1 := _) [.ref (E.2.2.1 9), .ref (E.2.2.1 5)] hC hP hS hB hl.1 (wX1_copy (n := 190) (⟨by decide, rfl, rfl⟩ : xint 9 190) (⟨by decide, rfl, rfl⟩ : xint 5 190) (by decide) ez_5) ⟨va_cnB 2 hts (lw_meth q225) rfl rfl rfl (nm_RailingsCount_262 (xC.nest hC)) (hts _ q122) cdX1_copy ⟨Nat.le_of_ble_eq_true rfl, Nat.le_of_ble_eq_true rfl⟩, hts _ q224, trivial⟩ rfl rfl (lv_room (Nat.le_of_ble_eq_true rfl)) ⟨Nat.le_of_eq (Nat.zero_add _), Nat.le_of_eq (Nat.zero_add _)⟩ dX0_foretold_32 (fun H locs cells slots hP hS hB => ?_)
      refine lv_iconst (v := 0) hx hb dX0_foretold_35 (by decide) ?_
      refine lv_istore_n (lv' := [(3, .int (0 : Int32)), (0, .ref (E.2.2.1 0)), (1, .int x1), (2, .int x2)]) hx hb dX0_foretold_36 rfl hl (Nat.le_of_ble_eq_true rfl) rfl (fun ls hl => ?_)
      refine lv_iconst (v := 0) hx hb dX0_foretold_37 (by decide) ?_
      refine lv_istore (lv' := [(4, .int (0 : Int32)), (3, .int (0 : Int32)), (0, .ref (E.2.2.1 0)), (1, .int x1), (2, .int x2)]) hx hb dX0_foretold_38 hl (Nat.le_of_ble_eq_true rfl) rfl (fun ls hl => ?_)
      obtain ⟨x_10, h_10, hE⟩ := ob hE
      refine lpw_walk (α := Int32 × Int32 × XS) (β := XS) (fun n_10 p_10 => xW p l e rmX0_foretold s m args below meth c E 5 (xQ E rmX0_foretold below args s (some (.int y.1)) y.2) (n_10 * 7 + 0) (n_10 * 28 + 0) 40 [(0, .ref (E.2.2.1 0)), (1, .int x1), (2, .int x2), (3, .int p_10.1), (4, .int p_10.2.1)] [] p_10.2.2) (fun n_10 p_10 => xW p l e rmX0_foretold s m args below meth c E 5 (xQ E rmX0_foretold below args s (some (.int y.1)) y.2) (7 + (n_10 * 7 + 0)) (28 + (n_10 * 28 + 0)) 58 [(0, .ref (E.2.2.1 0)), (1, .int x1), (2, .int x2), (3, .int p_10.1), (4, .int p_10.2.1)] [] p_10.2.2) (fun q_10 => xW p l e rmX0_foretold s m args below meth c E 5 (xQ E rmX0_foretold below args s (some (.int y.1)) y.2) 0 0 75 [(0, .ref (E.2.2.1 0)), (2, .int x2)] [] q_10) (fun n_10 a_10 y_10 hB_10 hc_10 hx_10 => wX0_foretold_T40 k x1 x2 (n_10 * 7 + 0) (n_10 * 28 + 0) 0 0 ⟨Nat.le_add_left _ _, Nat.le_add_left _ _⟩ hC a_10 y_10 hB_10 (fun e_10 => ?_) hx_10) (fun n_10 a_10 y_10 hB_10 hc_10 hx_10 => wX0_foretold_B40 k (n_10 * 7 + 0) (n_10 * 28 + 0) x1 x2 0 0 ⟨Nat.le_add_left _ _, Nat.le_add_left _ _⟩ hC a_10 y_10 hB_10 (fun b_10 e_10 => by have h9 := hc_10 b_10 e_10; rw [Nat.zero_add (n_10 * 7 + 0), Nat.zero_add (n_10 * 28 + 0)]; exact h9) hx_10) 60 _ x_10 h_10 ?_ H locs cells slots ls hP hS ⟨by have := hB.1; omega, by have := hB.2; omega⟩ (lv_sub hl [2, 3, 4, 1, 0] rfl)
      · obtain ⟨h1, h2⟩ := hc_10 e_10
        have e1 : n_10 * 7 + 0 = 7 + ((n_10 - 1) * 7 + 0) := by omega
        have e2 : n_10 * 28 + 0 = 28 + ((n_10 - 1) * 28 + 0) := by omega
        rw [e1, e2]
        exact h2
      intro H locs cells slots ls hP hS hB hl
      exact wX0_foretold_J75 k x_10 x2 hC y hE H locs cells slots ls hP hS hB hl
    · have hE := ip c_4 hE
      refine lv_bipush (v := -2) hx hb dX0_foretold_18 (by decide) ?_
      obtain rfl := Option.some.inj hE
      exact x_iret hC hP hS hB dX0_foretold_20
noncomputable def fX0_laysBars_B7 (k : Nat) (v1 : Int32) (a : Int32 × XS) : Option ((Int32 × XS) ⊕ XS) := if (60 : Int32) ≤ a.1 then (some (.inr a.2)) else ((fX0_kindAt a.2 ((v1 + a.1) - (v1 + a.1) / (30 : Int32) * (30 : Int32))).bind fun r_3 => if r_3 = (3 : Int32) then (some (.inr a.2)) else ((fX0_kindAt a.2 ((v1 + a.1) - (v1 + a.1) / (30 : Int32) * (30 : Int32))).bind fun r_5 => if r_5 = (1 : Int32) then (if ib (a.2.1 9) 60 then none else (nm (xA a.2 6 (upd (a.2.2.1 6) (a.2.1 9).toNatClampNeg ((v1 + a.1) - (v1 + a.1) / (30 : Int32) * (30 : Int32)))) fun z_7 => nm (xI z_7 9 ((z_7.1 9) + (1 : Int32))) fun z_8 => some (.inl ((a.1 + (1 : Int32)), z_8)))) else (some (.inl ((a.1 + (1 : Int32)), a.2)))))
set_option maxHeartbeats 1000000 in
theorem wX0_laysBars_B7 {p : Program} {l : Launch} {e : Env} {s : State} {m : MethodId} {args : Array Value} {below : List Frame} {meth : Method} {c : Code} {E : XE} {Q : State → Prop} (k : Nat) (v1 : Int32) (hC : xC E RX0 cX0_laysBars 3 none p s m args meth c) (a : Int32 × XS) (y : (Int32 × XS) ⊕ XS) (hE : fX0_laysBars_B7 k v1 a = some y) (hc : ∀ a : Int32 × XS, y = .inl a → xW p l e rmX0_laysBars s m args below meth c E 3 Q 0 0 7 [(0, .ref (E.2.2.1 0)), (1, .int v1), (2, .int a.1)] [] a.2) (hx1 : ∀ b : XS, y = .inr b → xW p l e rmX0_laysBars s m args below meth c E 3 Q 0 0 75 [] [] b) : xW p l e rmX0_laysBars s m args below meth c E 3 Q 0 0 7 [(0, .ref (E.2.2.1 0)), (1, .int v1), (2, .int a.1)] [] a.2 := by
  intro H locs cells slots ls hP hS hB hl
  have hx := hC.1
  have hb := hC.2.1
  have hown := hC.2.2.2.2.2.1
  have hts := hC.2.2.2.2.2.2.1
  unfold fX0_laysBars_B7 at hE
  refine lv_iload_n hx hb dX0_laysBars_7 rfl (lv_at hl 2 rfl) ?_
  refine lv_bipush (v := 60) hx hb dX0_laysBars_8 (by decide) ?_
  refine lv_icmp_ge (tgt := 75) hx hb dX0_laysBars_10 (by decide) (fun c_2 => ?_) (fun c_2 => ?_)
  · have hE := ip c_2 hE
    exact hx1 _ (Option.some.inj hE).symm H locs cells slots ls hP hS hB (lv_sub hl [] rfl)
  · have hE := iq c_2 hE
    refine lv_aload_n hx hb dX0_laysBars_13 rfl (lv_at hl 0 rfl) ?_
    refine lv_iload_n hx hb dX0_laysBars_14 rfl (lv_at hl 1 rfl) ?_
    refine lv_iload_n hx hb dX0_laysBars_15 rfl (lv_at hl 2 rfl) ?_
    refine lv_iadd hx hb dX0_laysBars_16 ?_
    refine lv_bipush (v := 30) hx hb dX0_laysBars_17 (by decide) ?_
    refine lv_irem hx hb dX0_laysBars_19 (by decide) ?_
    obtain ⟨r_3, h_3, hE⟩ := ob hE
    refine x_callV (rc1 := _) (rs1 := _) [.int ((v1 + a.1) - (v1 + a.1) / (30 : Int32) * (30 : Int32))] (E.2.2.1 0) hC hP hS hB hl.1 (wX0_kindAt a.2 ((v1 + a.1) - (v1 + a.1) / (30 : Int32) * (30 : Int32)) r_3 h_3) (xC.c0 hC) (xw_get E _ (k := 0) (by decide)) (cwV 1 hts lkX0_172 rfl rfl rfl cdX0_kindAt ⟨Nat.le_of_ble_eq_true rfl, Nat.le_of_ble_eq_true rfl⟩) rfl rfl (lv_room (Nat.le_of_ble_eq_true rfl)) ⟨Nat.le_of_eq (Nat.zero_add _), Nat.le_of_eq (Nat.zero_add _)⟩ dX0_laysBars_20 (fun H locs cells slots hP hS hB => ?_)
    show W p l e _ s m args below meth c H locs cells slots _ (F0 m _ ls (.int r_3 :: []))
    refine lv_iconst (v := 3) hx hb dX0_laysBars_23 (by decide) ?_
    refine lv_icmp_eq (tgt := 75) hx hb dX0_laysBars_24 (by decide) (fun c_4 => ?_) (fun c_4 => ?_)
    · have hE := ip c_4 hE
      exact hx1 _ (Option.some.inj hE).symm H locs cells slots ls hP hS hB (lv_sub hl [] rfl)
    · have hE := iq c_4 hE
      refine lv_aload_n hx hb dX0_laysBars_27 rfl (lv_at hl 0 rfl) ?_
      refine lv_iload_n hx hb dX0_laysBars_28 rfl (lv_at hl 1 rfl) ?_
      refine lv_iload_n hx hb dX0_laysBars_29 rfl (lv_at hl 2 rfl) ?_
      refine lv_iadd hx hb dX0_laysBars_30 ?_
      refine lv_bipush (v := 30) hx hb dX0_laysBars_31 (by decide) ?_
      refine lv_irem hx hb dX0_laysBars_33 (by decide) ?_
      obtain ⟨r_5, h_5, hE⟩ := ob hE
      refine x_callV (rc1 := _) (rs1 := _) [.int ((v1 + a.1) - (v1 + a.1) / (30 : Int32) * (30 : Int32))] (E.2.2.1 0) hC hP hS hB hl.1 (wX0_kindAt a.2 ((v1 + a.1) - (v1 + a.1) / (30 : Int32) * (30 : Int32)) r_5 h_5) (xC.c0 hC) (xw_get E _ (k := 0) (by decide)) (cwV 1 hts lkX0_172 rfl rfl rfl cdX0_kindAt ⟨Nat.le_of_ble_eq_true rfl, Nat.le_of_ble_eq_true rfl⟩) rfl rfl (lv_room (Nat.le_of_ble_eq_true rfl)) ⟨Nat.le_of_eq (Nat.zero_add _), Nat.le_of_eq (Nat.zero_add _)⟩ dX0_laysBars_34 (fun H locs cells slots hP hS hB => ?_)
      show W p l e _ s m args below meth c H locs cells slots _ (F0 m _ ls (.int r_5 :: []))
      refine lv_iconst (v := 1) hx hb dX0_laysBars_37 (by decide) ?_
      refine lv_icmp_eq (tgt := 44) hx hb dX0_laysBars_38 (by decide) (fun c_6 => ?_) (fun c_6 => ?_)
      · have hE := ip c_6 hE
        refine lv_aload_n hx hb dX0_laysBars_44 rfl (lv_at hl 0 rfl) ?_
        refine gX_46 hC hP dX0_laysBars_45 ?_
        refine lv_aload_n hx hb dX0_laysBars_48 rfl (lv_at hl 0 rfl) ?_
        refine gX_272 hC hP dX0_laysBars_49 ?_
        refine lv_iload_n hx hb dX0_laysBars_52 rfl (lv_at hl 1 rfl) ?_
        refine lv_iload_n hx hb dX0_laysBars_53 rfl (lv_at hl 2 rfl) ?_
        refine lv_iadd hx hb dX0_laysBars_54 ?_
        refine lv_bipush (v := 30) hx hb dX0_laysBars_55 (by decide) ?_
        refine lv_irem hx hb dX0_laysBars_57 (by decide) ?_
        obtain ⟨c_7, hE⟩ := og hE
        obtain ⟨z_7, ez_7, hE⟩ := on hE
        refine x_iast hC hP hS (⟨by decide, rfl, rfl⟩ : xint 6 60) c_7 ez_7 dX0_laysBars_58 (fun H locs hP hS => ?_)
        refine lv_aload_n hx hb dX0_laysBars_59 rfl (lv_at hl 0 rfl) ?_
        refine lv_dup hx hb dX0_laysBars_60 rfl ?_
        refine gX_272 hC hP dX0_laysBars_61 ?_
        refine lv_iconst (v := 1) hx hb dX0_laysBars_64 (by decide) ?_
        refine lv_iadd hx hb dX0_laysBars_65 ?_
        obtain ⟨z_8, ez_8, hE⟩ := on hE
        refine pX_272 hC hP hS ez_8 dX0_laysBars_66 (fun H locs hP hS => ?_)
        refine lv_iinc (v := (a.1 + (1 : Int32))) (lv' := [(2, .int (a.1 + (1 : Int32))), (0, .ref (E.2.2.1 0)), (1, .int v1)]) hx hb dX0_laysBars_69 hl (k := 2) rfl rfl (Nat.le_of_ble_eq_true rfl) rfl (fun ls hl => ?_)
        refine lv_goto (tgt := 7) hx hb dX0_laysBars_72 (by decide) ?_
        exact hc _ (Option.some.inj hE).symm H locs cells slots ls hP hS hB (lv_sub hl [1, 2, 0] rfl)
      · have hE := iq c_6 hE
        refine lv_goto (tgt := 69) hx hb dX0_laysBars_41 (by decide) ?_
        refine lv_iinc (v := (a.1 + (1 : Int32))) (lv' := [(2, .int (a.1 + (1 : Int32))), (0, .ref (E.2.2.1 0)), (1, .int v1)]) hx hb dX0_laysBars_69 hl (k := 2) rfl rfl (Nat.le_of_ble_eq_true rfl) rfl (fun ls hl => ?_)
        refine lv_goto (tgt := 7) hx hb dX0_laysBars_72 (by decide) ?_
        exact hc _ (Option.some.inj hE).symm H locs cells slots ls hP hS hB (lv_sub hl [1, 2, 0] rfl)
noncomputable def fX0_laysBars (k : Nat) (z : XS) (x1 : Int32) : Option XS := nm (xI z 9 (0 : Int32)) fun z_1 => (lpo (fX0_laysBars_B7 k x1) k ((0 : Int32), z_1)).bind fun x_9 => some x_9
set_option maxHeartbeats 1000000 in
theorem wX0_laysBars {l : Launch} {E : XE} (k : Nat) (z : XS) (x1 : Int32) (y : XS) (hE : fX0_laysBars k z x1 = some y) : xM l yX0_laysBars (ws_ yX0_laysBars cX0_laysBars 3 none) rmX0_laysBars E z [.ref (E.2.2.1 0), .int x1] none y := by
  refine x_met (own := RX0) (by decide) rfl (Nat.le_of_ble_eq_true rfl) (fun p e s m args below meth c hC => ?_)
  intro H locs cells slots ls hP hS hB hl
  have hx := hC.1
  have hb := hC.2.1
  have hown := hC.2.2.2.2.2.1
  have hts := hC.2.2.2.2.2.2.1
  have hl : lv_has ls 3 [(0, .ref (E.2.2.1 0)), (1, .int x1)] := hl
  unfold fX0_laysBars at hE
  refine lv_aload_n hx hb dX0_laysBars_0 rfl (lv_at hl 0 rfl) ?_
  refine lv_iconst (v := 0) hx hb dX0_laysBars_1 (by decide) ?_
  obtain ⟨z_1, ez_1, hE⟩ := on hE
  refine pX_272 hC hP hS ez_1 dX0_laysBars_2 (fun H locs hP hS => ?_)
  refine lv_iconst (v := 0) hx hb dX0_laysBars_5 (by decide) ?_
  refine lv_istore_n (lv' := [(2, .int (0 : Int32)), (0, .ref (E.2.2.1 0)), (1, .int x1)]) hx hb dX0_laysBars_6 rfl hl (Nat.le_of_ble_eq_true rfl) rfl (fun ls hl => ?_)
  obtain ⟨x_9, h_9, hE⟩ := ob hE
  refine lpo_walk (fun p_9 : Int32 × XS => xW p l e rmX0_laysBars s m args below meth c E 3 (xQ E rmX0_laysBars below args s none y) 0 0 7 [(0, .ref (E.2.2.1 0)), (1, .int x1), (2, .int p_9.1)] [] p_9.2) (fun q_9 : XS => xW p l e rmX0_laysBars s m args below meth c E 3 (xQ E rmX0_laysBars below args s none y) 0 0 75 [] [] q_9) (fun a_9 y_9 hB_9 hc_9 hx_9 => wX0_laysBars_B7 k x1 hC a_9 y_9 hB_9 hc_9 hx_9) _ _ x_9 h_9 ?_ H locs cells slots ls hP hS hB (lv_sub hl [1, 2, 0] rfl)
  intro H locs cells slots ls hP hS hB hl
  obtain rfl := Option.some.inj hE
  exact x_vret hC hP hS hB dX0_laysBars_75
noncomputable def fX0_oddsAt (V : XV) (z : XS) (x1 : Int32) (x2 : Int32) : Option (Int32 × XS) := (fX0_rules V z ).bind fun r_1 => if ib x2 60 then none else ((fX0_catchesBy_9 V z r_1 x1 (z.2.1 6 x2.toNatClampNeg) (x2 + (1 : Int32))).bind fun r_3 => some (r_3.1, r_3.2))
set_option maxHeartbeats 1000000 in
theorem wX0_oddsAt {l : Launch} {E : XE} (z : XS) (x1 : Int32) (x2 : Int32) (y : Int32 × XS) (hE : fX0_oddsAt E.2.2.2.2.2 z x1 x2 = some y) : xM l yX0_oddsAt (ws_ yX0_oddsAt cX0_oddsAt 3 (some .int)) rmX0_oddsAt E z [.ref (E.2.2.1 0), .int x1, .int x2] (some (.int y.1)) y.2 := by
  refine x_met (own := RX0) (by decide) rfl (Nat.le_of_ble_eq_true rfl) (fun p e s m args below meth c hC => ?_)
  intro H locs cells slots ls hP hS hB hl
  have hx := hC.1
  have hb := hC.2.1
  have hown := hC.2.2.2.2.2.1
  have hts := hC.2.2.2.2.2.2.1
  have hl : lv_has ls 3 [(0, .ref (E.2.2.1 0)), (1, .int x1), (2, .int x2)] := hl
  unfold fX0_oddsAt at hE
  refine lv_aload_n hx hb dX0_oddsAt_0 rfl (lv_at hl 0 rfl) ?_
  refine lv_aload_n hx hb dX0_oddsAt_1 rfl (lv_at hl 0 rfl) ?_
  obtain ⟨r_1, h_1, hE⟩ := ob hE
  refine x_callV (rc1 := _) (rs1 := _) [] (E.2.2.1 0) hC hP hS hB hl.1 (wX0_rules z  r_1 h_1) (xC.c0 hC) (xw_get E _ (k := 0) (by decide)) (cwV 0 hts lkX0_144 rfl rfl rfl cdX0_rules ⟨Nat.le_of_ble_eq_true rfl, Nat.le_of_ble_eq_true rfl⟩) rfl rfl (lv_room (Nat.le_of_ble_eq_true rfl)) ⟨Nat.le_of_eq (Nat.zero_add _), Nat.le_of_eq (Nat.zero_add _)⟩ dX0_oddsAt_2 (fun H locs cells slots hP hS hB => ?_)
  show W p l e _ s m args below meth c H locs cells slots _ (F0 m _ ls (.ref r_1 :: .ref (E.2.2.1 0) :: []))
  refine lv_aload_n hx hb dX0_oddsAt_5 rfl (lv_at hl 0 rfl) ?_
  refine gX_21 hC hP dX0_oddsAt_6 ?_
  refine gN_65_1 hC hP dX0_oddsAt_9 ?_
  refine lv_iload_n hx hb dX0_oddsAt_12 rfl (lv_at hl 1 rfl) ?_
  refine lv_aload_n hx hb dX0_oddsAt_13 rfl (lv_at hl 0 rfl) ?_
  refine gX_46 hC hP dX0_oddsAt_14 ?_
  refine lv_iload_n hx hb dX0_oddsAt_17 rfl (lv_at hl 2 rfl) ?_
  obtain ⟨c_2, hE⟩ := og hE
  refine x_iald hC hP (⟨by decide, rfl, rfl⟩ : xint 6 60) c_2 dX0_oddsAt_18 ?_
  refine lv_iload_n hx hb dX0_oddsAt_19 rfl (lv_at hl 2 rfl) ?_
  refine lv_iconst (v := 1) hx hb dX0_oddsAt_20 (by decide) ?_
  refine lv_iadd hx hb dX0_oddsAt_21 ?_
  obtain ⟨r_3, h_3, hE⟩ := ob hE
  refine x_callV (rc1 := _) (rs1 := _) [.ref r_1, .ref (E.2.2.1 9), .int x1, .int (z.2.1 6 x2.toNatClampNeg), .int (x2 + (1 : Int32))] (E.2.2.1 0) hC hP hS hB hl.1 (wX0_catchesBy_9 z r_1 x1 (z.2.1 6 x2.toNatClampNeg) (x2 + (1 : Int32)) r_3 h_3) (xC.c0 hC) (xw_get E _ (k := 0) (by decide)) (cwV 5 hts lkX0_151 rfl rfl rfl cdX0_catchesBy ⟨Nat.le_of_ble_eq_true rfl, Nat.le_of_ble_eq_true rfl⟩) rfl rfl (lv_room (Nat.le_of_ble_eq_true rfl)) ⟨Nat.le_of_eq (Nat.zero_add _), Nat.le_of_eq (Nat.zero_add _)⟩ dX0_oddsAt_22 (fun H locs cells slots hP hS hB => ?_)
  show W p l e _ s m args below meth c H locs cells slots _ (F0 m _ ls (.int r_3.1 :: []))
  obtain rfl := Option.some.inj hE
  exact x_iret hC hP hS hB dX0_oddsAt_25
noncomputable def fX0_likeOf_B15 (k : Nat) (V : XV) (v1 : Int32) (v2 : Int32) (a : Int64 × Int32 × XS) : Option ((Int64 × Int32 × XS) ⊕ (Int64 × XS)) := if (v2 - (1 : Int32)) ≤ a.2.1 then (some (.inr (a.1, a.2.2))) else ((fX0_oddsAt V a.2.2 v1 a.2.1).bind fun r_3 => some (.inl ((a.1 * ((10 : Int32) - r_3.1).toInt64), (a.2.1 + (1 : Int32)), r_3.2)))
set_option maxHeartbeats 1000000 in
theorem wX0_likeOf_B15 {p : Program} {l : Launch} {e : Env} {s : State} {m : MethodId} {args : Array Value} {below : List Frame} {meth : Method} {c : Code} {E : XE} {Q : State → Prop} (k : Nat) (v1 : Int32) (v2 : Int32) (hC : xC E RX0 cX0_likeOf 6 (some .long) p s m args meth c) (a : Int64 × Int32 × XS) (y : (Int64 × Int32 × XS) ⊕ (Int64 × XS)) (hE : fX0_likeOf_B15 k E.2.2.2.2.2 v1 v2 a = some y) (hc : ∀ a : Int64 × Int32 × XS, y = .inl a → xW p l e rmX0_likeOf s m args below meth c E 6 Q 0 0 15 [(0, .ref (E.2.2.1 0)), (1, .int v1), (2, .int v2), (3, .long a.1), (5, .int a.2.1)] [] a.2.2) (hx1 : ∀ b : Int64 × XS, y = .inr b → xW p l e rmX0_likeOf s m args below meth c E 6 Q 0 0 43 [(0, .ref (E.2.2.1 0)), (1, .int v1), (2, .int v2), (3, .long b.1)] [] b.2) : xW p l e rmX0_likeOf s m args below meth c E 6 Q 0 0 15 [(0, .ref (E.2.2.1 0)), (1, .int v1), (2, .int v2), (3, .long a.1), (5, .int a.2.1)] [] a.2.2 := by
  intro H locs cells slots ls hP hS hB hl
  have hx := hC.1
  have hb := hC.2.1
  have hown := hC.2.2.2.2.2.1
  have hts := hC.2.2.2.2.2.2.1
  unfold fX0_likeOf_B15 at hE
  refine lv_iload hx hb dX0_likeOf_15 (lv_at hl 4 rfl) ?_
  refine lv_iload_n hx hb dX0_likeOf_17 rfl (lv_at hl 2 rfl) ?_
  refine lv_iconst (v := 1) hx hb dX0_likeOf_18 (by decide) ?_
  refine lv_isub hx hb dX0_likeOf_19 ?_
  refine lv_icmp_ge (tgt := 43) hx hb dX0_likeOf_20 (by decide) (fun c_2 => ?_) (fun c_2 => ?_)
  · have hE := ip c_2 hE
    exact hx1 _ (Option.some.inj hE).symm H locs cells slots ls hP hS hB (lv_sub hl [0, 1, 2, 3] rfl)
  · have hE := iq c_2 hE
    refine lv_lload_n hx hb dX0_likeOf_23 rfl (lv_at hl 3 rfl) ?_
    refine lv_bipush (v := 10) hx hb dX0_likeOf_24 (by decide) ?_
    refine lv_aload_n hx hb dX0_likeOf_26 rfl (lv_at hl 0 rfl) ?_
    refine lv_iload_n hx hb dX0_likeOf_27 rfl (lv_at hl 1 rfl) ?_
    refine lv_iload hx hb dX0_likeOf_28 (lv_at hl 4 rfl) ?_
    obtain ⟨r_3, h_3, hE⟩ := ob hE
    refine x_callV (rc1 := _) (rs1 := _) [.int v1, .int a.2.1] (E.2.2.1 0) hC hP hS hB hl.1 (wX0_oddsAt a.2.2 v1 a.2.1 r_3 h_3) (xC.c0 hC) (xw_get E _ (k := 0) (by decide)) (cwV 2 hts lkX0_275 rfl rfl rfl cdX0_oddsAt ⟨Nat.le_of_ble_eq_true rfl, Nat.le_of_ble_eq_true rfl⟩) rfl rfl (lv_room (Nat.le_of_ble_eq_true rfl)) ⟨Nat.le_of_eq (Nat.zero_add _), Nat.le_of_eq (Nat.zero_add _)⟩ dX0_likeOf_30 (fun H locs cells slots hP hS hB => ?_)
    show W p l e _ s m args below meth c H locs cells slots _ (F0 m _ ls (.int r_3.1 :: .int (10 : Int32) :: .long a.1 :: []))
    refine lv_isub hx hb dX0_likeOf_33 ?_
    refine lv_i2l hx hb dX0_likeOf_34 rfl ?_
    refine lv_lmul hx hb dX0_likeOf_35 ?_
    refine lv_lstore_n (lv' := [(3, .long (a.1 * ((10 : Int32) - r_3.1).toInt64)), (0, .ref (E.2.2.1 0)), (1, .int v1), (2, .int v2), (5, .int a.2.1)]) hx hb dX0_likeOf_36 rfl hl (Nat.le_of_ble_eq_true rfl) rfl (fun ls hl => ?_)
    refine lv_iinc (v := (a.2.1 + (1 : Int32))) (lv' := [(5, .int (a.2.1 + (1 : Int32))), (3, .long (a.1 * ((10 : Int32) - r_3.1).toInt64)), (0, .ref (E.2.2.1 0)), (1, .int v1), (2, .int v2)]) hx hb dX0_likeOf_37 hl (k := 4) rfl rfl (Nat.le_of_ble_eq_true rfl) rfl (fun ls hl => ?_)
    refine lv_goto (tgt := 15) hx hb dX0_likeOf_40 (by decide) ?_
    exact hc _ (Option.some.inj hE).symm H locs cells slots ls hP hS hB (lv_sub hl [2, 3, 4, 1, 0] rfl)
noncomputable def fX0_likeOf (k : Nat) (V : XV) (z : XS) (x1 : Int32) (x2 : Int32) : Option (Int64 × XS) := if x2 ≤ (z.1 9) then ((lpo (fX0_likeOf_B15 k V x1 x2) k ((1 : Int64), (0 : Int32), z)).bind fun x_4 => if x2 = 0 then (if (x_4.2.1 9) = 0 then (some ((1 : Int64), x_4.2)) else (some ((0 : Int64), x_4.2))) else (if x2 = (x_4.2.1 9) then (some ((x_4.1 * (10 : Int32).toInt64), x_4.2)) else ((fX0_oddsAt V x_4.2 x1 (x2 - (1 : Int32))).bind fun r_7 => some ((x_4.1 * r_7.1.toInt64), r_7.2)))) else (some ((0 : Int64), z))
set_option maxHeartbeats 1000000 in
theorem wX0_likeOf {l : Launch} {E : XE} (k : Nat) (z : XS) (x1 : Int32) (x2 : Int32) (y : Int64 × XS) (hE : fX0_likeOf k E.2.2.2.2.2 z x1 x2 = some y) : xM l yX0_likeOf (ws_ yX0_likeOf cX0_likeOf 6 (some .long)) rmX0_likeOf E z [.ref (E.2.2.1 0), .int x1, .int x2] (some (.long y.1)) y.2 := by
  refine x_met (own := RX0) (by decide) rfl (Nat.le_of_ble_eq_true rfl) (fun p e s m args below meth c hC => ?_)
  intro H locs cells slots ls hP hS hB hl
  have hx := hC.1
  have hb := hC.2.1
  have hown := hC.2.2.2.2.2.1
  have hts := hC.2.2.2.2.2.2.1
  have hl : lv_has ls 6 [(0, .ref (E.2.2.1 0)), (1, .int x1), (2, .int x2)] := hl
  unfold fX0_likeOf at hE
  refine lv_iload_n hx hb dX0_likeOf_0 rfl (lv_at hl 2 rfl) ?_
  refine lv_aload_n hx hb dX0_likeOf_1 rfl (lv_at hl 0 rfl) ?_
  refine gX_272 hC hP dX0_likeOf_2 ?_
  refine lv_icmp_le (tgt := 10) hx hb dX0_likeOf_5 (by decide) (fun c_1 => ?_) (fun c_1 => ?_)
  · have hE := ip c_1 hE
    refine lv_lconst (v := 1) hx hb dX0_likeOf_10 (by decide) ?_
    refine lv_lstore_n (lv' := [(3, .long (1 : Int64)), (0, .ref (E.2.2.1 0)), (1, .int x1), (2, .int x2)]) hx hb dX0_likeOf_11 rfl hl (Nat.le_of_ble_eq_true rfl) rfl (fun ls hl => ?_)
    refine lv_iconst (v := 0) hx hb dX0_likeOf_12 (by decide) ?_
    refine lv_istore (lv' := [(5, .int (0 : Int32)), (3, .long (1 : Int64)), (0, .ref (E.2.2.1 0)), (1, .int x1), (2, .int x2)]) hx hb dX0_likeOf_13 hl (Nat.le_of_ble_eq_true rfl) rfl (fun ls hl => ?_)
    obtain ⟨x_4, h_4, hE⟩ := ob hE
    refine lpo_walk (fun p_4 : Int64 × Int32 × XS => xW p l e rmX0_likeOf s m args below meth c E 6 (xQ E rmX0_likeOf below args s (some (.long y.1)) y.2) 0 0 15 [(0, .ref (E.2.2.1 0)), (1, .int x1), (2, .int x2), (3, .long p_4.1), (5, .int p_4.2.1)] [] p_4.2.2) (fun q_4 : Int64 × XS => xW p l e rmX0_likeOf s m args below meth c E 6 (xQ E rmX0_likeOf below args s (some (.long y.1)) y.2) 0 0 43 [(0, .ref (E.2.2.1 0)), (1, .int x1), (2, .int x2), (3, .long q_4.1)] [] q_4.2) (fun a_4 y_4 hB_4 hc_4 hx_4 => wX0_likeOf_B15 k x1 x2 hC a_4 y_4 hB_4 hc_4 hx_4) _ _ x_4 h_4 ?_ H locs cells slots ls hP hS hB (lv_sub hl [2, 3, 4, 1, 0] rfl)
    intro H locs cells slots ls hP hS hB hl
    refine lv_iload_n hx hb dX0_likeOf_43 rfl (lv_at hl 2 rfl) ?_
    refine lv_if_ne (tgt := 62) hx hb dX0_likeOf_44 (by decide) (fun c_5 => ?_) (fun c_5 => ?_)
    · have hE := iq c_5 hE
      refine lv_lload_n hx hb dX0_likeOf_62 rfl (lv_at hl 3 rfl) ?_
      refine lv_iload_n hx hb dX0_likeOf_63 rfl (lv_at hl 2 rfl) ?_
      refine lv_aload_n hx hb dX0_likeOf_64 rfl (lv_at hl 0 rfl) ?_
      refine gX_272 hC hP dX0_likeOf_65 ?_
      refine lv_icmp_ne (tgt := 76) hx hb dX0_likeOf_68 (by decide) (fun c_6 => ?_) (fun c_6 => ?_)
      · have hE := iq c_6 hE
        refine lv_aload_n hx hb dX0_likeOf_76 rfl (lv_at hl 0 rfl) ?_
        refine lv_iload_n hx hb dX0_likeOf_77 rfl (lv_at hl 1 rfl) ?_
        refine lv_iload_n hx hb dX0_likeOf_78 rfl (lv_at hl 2 rfl) ?_
        refine lv_iconst (v := 1) hx hb dX0_likeOf_79 (by decide) ?_
        refine lv_isub hx hb dX0_likeOf_80 ?_
        obtain ⟨r_7, h_7, hE⟩ := ob hE
        refine x_callV (rc1 := _) (rs1 := _) [.int x1, .int (x2 - (1 : Int32))] (E.2.2.1 0) hC hP hS hB hl.1 (wX0_oddsAt x_4.2 x1 (x2 - (1 : Int32)) r_7 h_7) (xC.c0 hC) (xw_get E _ (k := 0) (by decide)) (cwV 2 hts lkX0_275 rfl rfl rfl cdX0_oddsAt ⟨Nat.le_of_ble_eq_true rfl, Nat.le_of_ble_eq_true rfl⟩) rfl rfl (lv_room (Nat.le_of_ble_eq_true rfl)) ⟨Nat.le_of_eq (Nat.zero_add _), Nat.le_of_eq (Nat.zero_add _)⟩ dX0_likeOf_81 (fun H locs cells slots hP hS hB => ?_)
        show W p l e _ s m args below meth c H locs cells slots _ (F0 m _ ls (.int r_7.1 :: .long x_4.1 :: []))
        refine lv_i2l hx hb dX0_likeOf_84 rfl ?_
        refine lv_lmul hx hb dX0_likeOf_85 ?_
        obtain rfl := Option.some.inj hE
        exact x_lret hC hP hS hB dX0_likeOf_86
      · have hE := ip c_6 hE
        refine lv_bipush (v := 10) hx hb dX0_likeOf_71 (by decide) ?_
        refine lv_goto (tgt := 84) hx hb dX0_likeOf_73 (by decide) ?_
        refine lv_i2l hx hb dX0_likeOf_84 rfl ?_
        refine lv_lmul hx hb dX0_likeOf_85 ?_
        obtain rfl := Option.some.inj hE
        exact x_lret hC hP hS hB dX0_likeOf_86
    · have hE := ip c_5 hE
      refine lv_aload_n hx hb dX0_likeOf_47 rfl (lv_at hl 0 rfl) ?_
      refine gX_272 hC hP dX0_likeOf_48 ?_
      refine lv_if_ne (tgt := 58) hx hb dX0_likeOf_51 (by decide) (fun c_8 => ?_) (fun c_8 => ?_)
      · have hE := iq c_8 hE
        refine lv_lconst (v := 0) hx hb dX0_likeOf_58 (by decide) ?_
        refine lv_goto (tgt := 86) hx hb dX0_likeOf_59 (by decide) ?_
        obtain rfl := Option.some.inj hE
        exact x_lret hC hP hS hB dX0_likeOf_86
      · have hE := ip c_8 hE
        refine lv_lconst (v := 1) hx hb dX0_likeOf_54 (by decide) ?_
        refine lv_goto (tgt := 86) hx hb dX0_likeOf_55 (by decide) ?_
        obtain rfl := Option.some.inj hE
        exact x_lret hC hP hS hB dX0_likeOf_86
  · have hE := iq c_1 hE
    refine lv_lconst (v := 0) hx hb dX0_likeOf_8 (by decide) ?_
    obtain rfl := Option.some.inj hE
    exact x_lret hC hP hS hB dX0_likeOf_9
noncomputable def fX0_likely (k : Nat) (V : XV) (z : XS) (x1 : Int32) (x2 : Int32) (x3 : Int32) (x4 : Int32) : Option (Int64 × XS) := (fX0_isChild z x1).bind fun r_1 => if r_1 = 0 then (some ((-1 : Int64), z)) else ((fX0_isPlace x2).bind fun r_3 => if r_3 = 0 then (some ((-1 : Int64), z)) else ((fX0_in x3 (0 : Int32) (12 : Int32)).bind fun r_5 => if r_5 = 0 then (some ((-1 : Int64), z)) else ((fX0_laysBars k z x2).bind fun r_7 => (fX0_likeOf k V r_7 x1 x3).bind fun r_8 => (fX0_power 20 (10 : Int64) x3).bind fun r_9 => (fX0_common 100 r_9 r_8.1).bind fun r_10 => if x4 = 0 then (if r_10 = (0 : Int64) then none else some ((r_8.1 / r_10), r_8.2)) else (if r_10 = (0 : Int64) then none else some ((r_9 / r_10), r_8.2)))))
set_option maxHeartbeats 1000000 in
theorem wX0_likely {l : Launch} {E : XE} (k : Nat) (z : XS) (x1 : Int32) (x2 : Int32) (x3 : Int32) (x4 : Int32) (y : Int64 × XS) (hE : fX0_likely k E.2.2.2.2.2 z x1 x2 x3 x4 = some y) : xM l yX0_likely (ws_ yX0_likely cX0_likely 11 (some .long)) rmX0_likely E z [.ref (E.2.2.1 0), .int x1, .int x2, .int x3, .int x4] (some (.long y.1)) y.2 := by
  refine x_met (own := RX0) (by decide) rfl (Nat.le_of_ble_eq_true rfl) (fun p e s m args below meth c hC => ?_)
  intro H locs cells slots ls hP hS hB hl
  have hx := hC.1
  have hb := hC.2.1
  have hown := hC.2.2.2.2.2.1
  have hts := hC.2.2.2.2.2.2.1
  have hl : lv_has ls 11 [(0, .ref (E.2.2.1 0)), (1, .int x1), (2, .int x2), (3, .int x3), (4, .int x4)] := hl
  unfold fX0_likely at hE
  refine lv_aload_n hx hb dX0_likely_0 rfl (lv_at hl 0 rfl) ?_
  refine lv_iload_n hx hb dX0_likely_1 rfl (lv_at hl 1 rfl) ?_
  obtain ⟨r_1, h_1, hE⟩ := ob hE
  refine x_callV (rc1 := _) (rs1 := _) [.int x1] (E.2.2.1 0) hC hP hS hB hl.1 (wX0_isChild z x1 r_1 h_1) (xC.c0 hC) (xw_get E _ (k := 0) (by decide)) (cwV 1 hts lkX0_159 rfl rfl rfl cdX0_isChild ⟨Nat.le_of_ble_eq_true rfl, Nat.le_of_ble_eq_true rfl⟩) rfl rfl (lv_room (Nat.le_of_ble_eq_true rfl)) ⟨Nat.le_of_eq (Nat.zero_add _), Nat.le_of_eq (Nat.zero_add _)⟩ dX0_likely_2 (fun H locs cells slots hP hS hB => ?_)
  show W p l e _ s m args below meth c H locs cells slots _ (F0 m _ ls (.int r_1 :: []))
  refine lv_if_eq (tgt := 25) hx hb dX0_likely_5 (by decide) (fun c_2 => ?_) (fun c_2 => ?_)
  · have hE := ip c_2 hE
    refine lv_ldc2 (v := -1) hx hb hown (hts _ q1144) dX0_likely_25 ?_
    obtain rfl := Option.some.inj hE
    exact x_lret hC hP hS hB dX0_likely_28
  · have hE := iq c_2 hE
    refine lv_iload_n hx hb dX0_likely_8 rfl (lv_at hl 2 rfl) ?_
    obtain ⟨r_3, h_3, hE⟩ := ob hE
    refine s_calli [.int x2] hC.sC hl.1 (wX0_isPlace x2 r_3 h_3) (va_cwS 1 hts lkX0_68 rfl rfl rfl cdX0_isPlace ⟨Nat.le_of_ble_eq_true rfl, Nat.le_of_ble_eq_true rfl⟩) rfl rfl (lv_room (Nat.le_of_ble_eq_true rfl)) (hB0 hB) dX0_likely_9 ?_
    refine lv_if_eq (tgt := 25) hx hb dX0_likely_12 (by decide) (fun c_4 => ?_) (fun c_4 => ?_)
    · have hE := ip c_4 hE
      refine lv_ldc2 (v := -1) hx hb hown (hts _ q1144) dX0_likely_25 ?_
      obtain rfl := Option.some.inj hE
      exact x_lret hC hP hS hB dX0_likely_28
    · have hE := iq c_4 hE
      refine lv_iload_n hx hb dX0_likely_15 rfl (lv_at hl 3 rfl) ?_
      refine lv_iconst (v := 0) hx hb dX0_likely_16 (by decide) ?_
      refine lv_bipush (v := 12) hx hb dX0_likely_17 (by decide) ?_
      obtain ⟨r_5, h_5, hE⟩ := ob hE
      refine s_calli [.int x3, .int (0 : Int32), .int (12 : Int32)] hC.sC hl.1 (wX0_in x3 (0 : Int32) (12 : Int32) r_5 h_5) (va_cwS 3 hts lkX0_58 rfl rfl rfl cdX0_in ⟨Nat.le_of_ble_eq_true rfl, Nat.le_of_ble_eq_true rfl⟩) rfl rfl (lv_room (Nat.le_of_ble_eq_true rfl)) (hB0 hB) dX0_likely_19 ?_
      refine lv_if_ne (tgt := 29) hx hb dX0_likely_22 (by decide) (fun c_6 => ?_) (fun c_6 => ?_)
      · have hE := iq c_6 hE
        refine lv_aload_n hx hb dX0_likely_29 rfl (lv_at hl 0 rfl) ?_
        refine lv_iload_n hx hb dX0_likely_30 rfl (lv_at hl 2 rfl) ?_
        obtain ⟨r_7, h_7, hE⟩ := ob hE
        refine x_callV (rc1 := _) (rs1 := _) [.int x2] (E.2.2.1 0) hC hP hS hB hl.1 (wX0_laysBars k z x2 r_7 h_7) (xC.c0 hC) (xw_get E _ (k := 0) (by decide)) (cwV 1 hts lkX0_287 rfl rfl rfl cdX0_laysBars ⟨Nat.le_of_ble_eq_true rfl, Nat.le_of_ble_eq_true rfl⟩) rfl rfl (lv_room (Nat.le_of_ble_eq_true rfl)) ⟨Nat.le_of_eq (Nat.zero_add _), Nat.le_of_eq (Nat.zero_add _)⟩ dX0_likely_31 (fun H locs cells slots hP hS hB => ?_)
        show W p l e _ s m args below meth c H locs cells slots _ (F0 m _ ls ([]))
        refine lv_aload_n hx hb dX0_likely_34 rfl (lv_at hl 0 rfl) ?_
        refine lv_iload_n hx hb dX0_likely_35 rfl (lv_at hl 1 rfl) ?_
        refine lv_iload_n hx hb dX0_likely_36 rfl (lv_at hl 3 rfl) ?_
        obtain ⟨r_8, h_8, hE⟩ := ob hE
        refine x_callV (rc1 := _) (rs1 := _) [.int x1, .int x3] (E.2.2.1 0) hC hP hS hB hl.1 (wX0_likeOf k r_7 x1 x3 r_8 h_8) (xC.c0 hC) (xw_get E _ (k := 0) (by decide)) (cwV 2 hts lkX0_290 rfl rfl rfl cdX0_likeOf ⟨Nat.le_of_ble_eq_true rfl, Nat.le_of_ble_eq_true rfl⟩) rfl rfl (lv_room (Nat.le_of_ble_eq_true rfl)) ⟨Nat.le_of_eq (Nat.zero_add _), Nat.le_of_eq (Nat.zero_add _)⟩ dX0_likely_37 (fun H locs cells slots hP hS hB => ?_)
        show W p l e _ s m args below meth c H locs cells slots _ (F0 m _ ls (.long r_8.1 :: []))
        refine lv_lstore (lv' := [(5, .long r_8.1), (0, .ref (E.2.2.1 0)), (1, .int x1), (2, .int x2), (3, .int x3), (4, .int x4)]) hx hb dX0_likely_40 hl (Nat.le_of_ble_eq_true rfl) rfl (fun ls hl => ?_)
        refine lv_ldc2 (v := 10) hx hb hown (hts _ q1157) dX0_likely_42 ?_
        refine lv_iload_n hx hb dX0_likely_45 rfl (lv_at hl 4 rfl) ?_
        obtain ⟨r_9, h_9, hE⟩ := ob hE
        refine s_calll [.long (10 : Int64), .int x3] hC.sC hl.1 (wX0_power 20 (10 : Int64) x3 r_9 h_9) (va_cwS 2 hts lkX0_281 rfl rfl rfl cdX0_power ⟨Nat.le_of_ble_eq_true rfl, Nat.le_of_ble_eq_true rfl⟩) rfl rfl (lv_room (Nat.le_of_ble_eq_true rfl)) (hB0 hB) dX0_likely_46 ?_
        refine lv_lstore (lv' := [(7, .long r_9), (5, .long r_8.1), (0, .ref (E.2.2.1 0)), (1, .int x1), (2, .int x2), (3, .int x3), (4, .int x4)]) hx hb dX0_likely_49 hl (Nat.le_of_ble_eq_true rfl) rfl (fun ls hl => ?_)
        refine lv_lload hx hb dX0_likely_51 (lv_at hl 0 rfl) ?_
        refine lv_lload hx hb dX0_likely_53 (lv_at hl 1 rfl) ?_
        obtain ⟨r_10, h_10, hE⟩ := ob hE
        refine s_calll [.long r_9, .long r_8.1] hC.sC hl.1 (wX0_common 100 r_9 r_8.1 r_10 h_10) (va_cwS 2 hts lkX0_278 rfl rfl rfl cdX0_common ⟨Nat.le_of_ble_eq_true rfl, Nat.le_of_ble_eq_true rfl⟩) rfl rfl (lv_room (Nat.le_of_ble_eq_true rfl)) (hB0 hB) dX0_likely_55 ?_
        refine lv_lstore (lv' := [(9, .long r_10), (7, .long r_9), (5, .long r_8.1), (0, .ref (E.2.2.1 0)), (1, .int x1), (2, .int x2), (3, .int x3), (4, .int x4)]) hx hb dX0_likely_58 hl (Nat.le_of_ble_eq_true rfl) rfl (fun ls hl => ?_)
        refine lv_iload hx hb dX0_likely_60 (lv_at hl 7 rfl) ?_
        refine lv_if_eq (tgt := 73) hx hb dX0_likely_62 (by decide) (fun c_11 => ?_) (fun c_11 => ?_)
        · have hE := ip c_11 hE
          refine lv_lload hx hb dX0_likely_73 (lv_at hl 2 rfl) ?_
          refine lv_lload hx hb dX0_likely_75 (lv_at hl 0 rfl) ?_
          obtain ⟨c_12, hE⟩ := og hE
          refine lv_ldiv hx hb dX0_likely_77 c_12 ?_
          obtain rfl := Option.some.inj hE
          exact x_lret hC hP hS hB dX0_likely_78
        · have hE := iq c_11 hE
          refine lv_lload hx hb dX0_likely_65 (lv_at hl 1 rfl) ?_
          refine lv_lload hx hb dX0_likely_67 (lv_at hl 0 rfl) ?_
          obtain ⟨c_13, hE⟩ := og hE
          refine lv_ldiv hx hb dX0_likely_69 c_13 ?_
          refine lv_goto (tgt := 78) hx hb dX0_likely_70 (by decide) ?_
          obtain rfl := Option.some.inj hE
          exact x_lret hC hP hS hB dX0_likely_78
      · have hE := ip c_6 hE
        refine lv_ldc2 (v := -1) hx hb hown (hts _ q1144) dX0_likely_25 ?_
        obtain rfl := Option.some.inj hE
        exact x_lret hC hP hS hB dX0_likely_28
noncomputable def fX0_start_B28 (k : Nat) (V : XV) (v1 : Int32) (v2 : Int32) (a : Int32 × Int64 × Int32 × XS) : Option ((Int32 × Int64 × Int32 × XS) ⊕ (Int32 × XS)) := if (30 : Int32) ≤ a.2.2.1 then (some (.inr (a.1, a.2.2.2))) else ((fX0_laysBars k a.2.2.2 a.2.2.1).bind fun r_6 => (fX0_likeOf k V r_6 v1 v2).bind fun r_7 => if 0 < (lg_cmp r_7.1 a.2.1) then (some (.inl (a.2.2.1, r_7.1, (a.2.2.1 + (1 : Int32)), r_7.2))) else (some (.inl (a.1, a.2.1, (a.2.2.1 + (1 : Int32)), r_7.2))))
set_option maxHeartbeats 1000000 in
theorem wX0_start_B28 {p : Program} {l : Launch} {e : Env} {s : State} {m : MethodId} {args : Array Value} {below : List Frame} {meth : Method} {c : Code} {E : XE} {Q : State → Prop} (k : Nat) (v1 : Int32) (v2 : Int32) (hC : xC E RX0 cX0_start 9 (some .int) p s m args meth c) (a : Int32 × Int64 × Int32 × XS) (y : (Int32 × Int64 × Int32 × XS) ⊕ (Int32 × XS)) (hE : fX0_start_B28 k E.2.2.2.2.2 v1 v2 a = some y) (hc : ∀ a : Int32 × Int64 × Int32 × XS, y = .inl a → xW p l e rmX0_start s m args below meth c E 9 Q 0 0 28 [(0, .ref (E.2.2.1 0)), (1, .int v1), (2, .int v2), (3, .int a.1), (4, .long a.2.1), (6, .int a.2.2.1)] [] a.2.2.2) (hx1 : ∀ b : Int32 × XS, y = .inr b → xW p l e rmX0_start s m args below meth c E 9 Q 0 0 73 [(3, .int b.1)] [] b.2) : xW p l e rmX0_start s m args below meth c E 9 Q 0 0 28 [(0, .ref (E.2.2.1 0)), (1, .int v1), (2, .int v2), (3, .int a.1), (4, .long a.2.1), (6, .int a.2.2.1)] [] a.2.2.2 := by
  intro H locs cells slots ls hP hS hB hl
  have hx := hC.1
  have hb := hC.2.1
  have hown := hC.2.2.2.2.2.1
  have hts := hC.2.2.2.2.2.2.1
  unfold fX0_start_B28 at hE
  refine lv_iload hx hb dX0_start_28 (lv_at hl 5 rfl) ?_
  refine lv_bipush (v := 30) hx hb dX0_start_30 (by decide) ?_
  refine lv_icmp_ge (tgt := 73) hx hb dX0_start_32 (by decide) (fun c_5 => ?_) (fun c_5 => ?_)
  · have hE := ip c_5 hE
    exact hx1 _ (Option.some.inj hE).symm H locs cells slots ls hP hS hB (lv_sub hl [3] rfl)
  · have hE := iq c_5 hE
    refine lv_aload_n hx hb dX0_start_35 rfl (lv_at hl 0 rfl) ?_
    refine lv_iload hx hb dX0_start_36 (lv_at hl 5 rfl) ?_
    obtain ⟨r_6, h_6, hE⟩ := ob hE
    refine x_callV (rc1 := _) (rs1 := _) [.int a.2.2.1] (E.2.2.1 0) hC hP hS hB hl.1 (wX0_laysBars k a.2.2.2 a.2.2.1 r_6 h_6) (xC.c0 hC) (xw_get E _ (k := 0) (by decide)) (cwV 1 hts lkX0_287 rfl rfl rfl cdX0_laysBars ⟨Nat.le_of_ble_eq_true rfl, Nat.le_of_ble_eq_true rfl⟩) rfl rfl (lv_room (Nat.le_of_ble_eq_true rfl)) ⟨Nat.le_of_eq (Nat.zero_add _), Nat.le_of_eq (Nat.zero_add _)⟩ dX0_start_38 (fun H locs cells slots hP hS hB => ?_)
    show W p l e _ s m args below meth c H locs cells slots _ (F0 m _ ls ([]))
    refine lv_aload_n hx hb dX0_start_41 rfl (lv_at hl 0 rfl) ?_
    refine lv_iload_n hx hb dX0_start_42 rfl (lv_at hl 1 rfl) ?_
    refine lv_iload_n hx hb dX0_start_43 rfl (lv_at hl 2 rfl) ?_
    obtain ⟨r_7, h_7, hE⟩ := ob hE
    refine x_callV (rc1 := _) (rs1 := _) [.int v1, .int v2] (E.2.2.1 0) hC hP hS hB hl.1 (wX0_likeOf k r_6 v1 v2 r_7 h_7) (xC.c0 hC) (xw_get E _ (k := 0) (by decide)) (cwV 2 hts lkX0_290 rfl rfl rfl cdX0_likeOf ⟨Nat.le_of_ble_eq_true rfl, Nat.le_of_ble_eq_true rfl⟩) rfl rfl (lv_room (Nat.le_of_ble_eq_true rfl)) ⟨Nat.le_of_eq (Nat.zero_add _), Nat.le_of_eq (Nat.zero_add _)⟩ dX0_start_44 (fun H locs cells slots hP hS hB => ?_)
    show W p l e _ s m args below meth c H locs cells slots _ (F0 m _ ls (.long r_7.1 :: []))
    refine lv_lstore (lv' := [(7, .long r_7.1), (0, .ref (E.2.2.1 0)), (1, .int v1), (2, .int v2), (3, .int a.1), (4, .long a.2.1), (6, .int a.2.2.1)]) hx hb dX0_start_47 hl (Nat.le_of_ble_eq_true rfl) rfl (fun ls hl => ?_)
    refine lv_lload hx hb dX0_start_49 (lv_at hl 0 rfl) ?_
    refine lv_lload hx hb dX0_start_51 (lv_at hl 5 rfl) ?_
    refine W.lcmp hx hb dX0_start_53 ?_
    refine lv_if_gt (tgt := 60) hx hb dX0_start_54 (by decide) (fun c_8 => ?_) (fun c_8 => ?_)
    · have hE := ip c_8 hE
      refine lv_iload hx hb dX0_start_60 (lv_at hl 6 rfl) ?_
      refine lv_istore_n (lv' := [(3, .int a.2.2.1), (7, .long r_7.1), (0, .ref (E.2.2.1 0)), (1, .int v1), (2, .int v2), (4, .long a.2.1), (6, .int a.2.2.1)]) hx hb dX0_start_62 rfl hl (Nat.le_of_ble_eq_true rfl) rfl (fun ls hl => ?_)
      refine lv_lload hx hb dX0_start_63 (lv_at hl 1 rfl) ?_
      refine lv_lstore (lv' := [(4, .long r_7.1), (3, .int a.2.2.1), (7, .long r_7.1), (0, .ref (E.2.2.1 0)), (1, .int v1), (2, .int v2), (6, .int a.2.2.1)]) hx hb dX0_start_65 hl (Nat.le_of_ble_eq_true rfl) rfl (fun ls hl => ?_)
      refine lv_iinc (v := (a.2.2.1 + (1 : Int32))) (lv' := [(6, .int (a.2.2.1 + (1 : Int32))), (4, .long r_7.1), (3, .int a.2.2.1), (7, .long r_7.1), (0, .ref (E.2.2.1 0)), (1, .int v1), (2, .int v2)]) hx hb dX0_start_67 hl (k := 6) rfl rfl (Nat.le_of_ble_eq_true rfl) rfl (fun ls hl => ?_)
      refine lv_goto (tgt := 28) hx hb dX0_start_70 (by decide) ?_
      exact hc _ (Option.some.inj hE).symm H locs cells slots ls hP hS hB (lv_sub hl [4, 5, 6, 2, 1, 0] rfl)
    · have hE := iq c_8 hE
      refine lv_goto (tgt := 67) hx hb dX0_start_57 (by decide) ?_
      refine lv_iinc (v := (a.2.2.1 + (1 : Int32))) (lv' := [(6, .int (a.2.2.1 + (1 : Int32))), (7, .long r_7.1), (0, .ref (E.2.2.1 0)), (1, .int v1), (2, .int v2), (3, .int a.1), (4, .long a.2.1)]) hx hb dX0_start_67 hl (k := 6) rfl rfl (Nat.le_of_ble_eq_true rfl) rfl (fun ls hl => ?_)
      refine lv_goto (tgt := 28) hx hb dX0_start_70 (by decide) ?_
      exact hc _ (Option.some.inj hE).symm H locs cells slots ls hP hS hB (lv_sub hl [2, 3, 4, 5, 6, 0] rfl)
noncomputable def fX0_start (k : Nat) (V : XV) (z : XS) (x1 : Int32) (x2 : Int32) : Option (Int32 × XS) := (fX0_isChild z x1).bind fun r_1 => if r_1 = 0 then (some ((-1 : Int32), z)) else ((fX0_in x2 (0 : Int32) (12 : Int32)).bind fun r_3 => if r_3 = 0 then (some ((-1 : Int32), z)) else ((lpo (fX0_start_B28 k V x1 x2) k ((-1 : Int32), (0 : Int64), (0 : Int32), z)).bind fun x_9 => some (x_9.1, x_9.2)))
set_option maxHeartbeats 1000000 in
theorem wX0_start {l : Launch} {E : XE} (k : Nat) (z : XS) (x1 : Int32) (x2 : Int32) (y : Int32 × XS) (hE : fX0_start k E.2.2.2.2.2 z x1 x2 = some y) : xM l yX0_start (ws_ yX0_start cX0_start 9 (some .int)) rmX0_start E z [.ref (E.2.2.1 0), .int x1, .int x2] (some (.int y.1)) y.2 := by
  refine x_met (own := RX0) (by decide) rfl (Nat.le_of_ble_eq_true rfl) (fun p e s m args below meth c hC => ?_)
  intro H locs cells slots ls hP hS hB hl
  have hx := hC.1
  have hb := hC.2.1
  have hown := hC.2.2.2.2.2.1
  have hts := hC.2.2.2.2.2.2.1
  have hl : lv_has ls 9 [(0, .ref (E.2.2.1 0)), (1, .int x1), (2, .int x2)] := hl
  unfold fX0_start at hE
  refine lv_aload_n hx hb dX0_start_0 rfl (lv_at hl 0 rfl) ?_
  refine lv_iload_n hx hb dX0_start_1 rfl (lv_at hl 1 rfl) ?_
  obtain ⟨r_1, h_1, hE⟩ := ob hE
  refine x_callV (rc1 := _) (rs1 := _) [.int x1] (E.2.2.1 0) hC hP hS hB hl.1 (wX0_isChild z x1 r_1 h_1) (xC.c0 hC) (xw_get E _ (k := 0) (by decide)) (cwV 1 hts lkX0_159 rfl rfl rfl cdX0_isChild ⟨Nat.le_of_ble_eq_true rfl, Nat.le_of_ble_eq_true rfl⟩) rfl rfl (lv_room (Nat.le_of_ble_eq_true rfl)) ⟨Nat.le_of_eq (Nat.zero_add _), Nat.le_of_eq (Nat.zero_add _)⟩ dX0_start_2 (fun H locs cells slots hP hS hB => ?_)
  show W p l e _ s m args below meth c H locs cells slots _ (F0 m _ ls (.int r_1 :: []))
  refine lv_if_eq (tgt := 18) hx hb dX0_start_5 (by decide) (fun c_2 => ?_) (fun c_2 => ?_)
  · have hE := ip c_2 hE
    refine lv_iconst (v := -1) hx hb dX0_start_18 (by decide) ?_
    obtain rfl := Option.some.inj hE
    exact x_iret hC hP hS hB dX0_start_19
  · have hE := iq c_2 hE
    refine lv_iload_n hx hb dX0_start_8 rfl (lv_at hl 2 rfl) ?_
    refine lv_iconst (v := 0) hx hb dX0_start_9 (by decide) ?_
    refine lv_bipush (v := 12) hx hb dX0_start_10 (by decide) ?_
    obtain ⟨r_3, h_3, hE⟩ := ob hE
    refine s_calli [.int x2, .int (0 : Int32), .int (12 : Int32)] hC.sC hl.1 (wX0_in x2 (0 : Int32) (12 : Int32) r_3 h_3) (va_cwS 3 hts lkX0_58 rfl rfl rfl cdX0_in ⟨Nat.le_of_ble_eq_true rfl, Nat.le_of_ble_eq_true rfl⟩) rfl rfl (lv_room (Nat.le_of_ble_eq_true rfl)) (hB0 hB) dX0_start_12 ?_
    refine lv_if_ne (tgt := 20) hx hb dX0_start_15 (by decide) (fun c_4 => ?_) (fun c_4 => ?_)
    · have hE := iq c_4 hE
      refine lv_iconst (v := -1) hx hb dX0_start_20 (by decide) ?_
      refine lv_istore_n (lv' := [(3, .int (-1 : Int32)), (0, .ref (E.2.2.1 0)), (1, .int x1), (2, .int x2)]) hx hb dX0_start_21 rfl hl (Nat.le_of_ble_eq_true rfl) rfl (fun ls hl => ?_)
      refine lv_lconst (v := 0) hx hb dX0_start_22 (by decide) ?_
      refine lv_lstore (lv' := [(4, .long (0 : Int64)), (3, .int (-1 : Int32)), (0, .ref (E.2.2.1 0)), (1, .int x1), (2, .int x2)]) hx hb dX0_start_23 hl (Nat.le_of_ble_eq_true rfl) rfl (fun ls hl => ?_)
      refine lv_iconst (v := 0) hx hb dX0_start_25 (by decide) ?_
      refine lv_istore (lv' := [(6, .int (0 : Int32)), (4, .long (0 : Int64)), (3, .int (-1 : Int32)), (0, .ref (E.2.2.1 0)), (1, .int x1), (2, .int x2)]) hx hb dX0_start_26 hl (Nat.le_of_ble_eq_true rfl) rfl (fun ls hl => ?_)
      obtain ⟨x_9, h_9, hE⟩ := ob hE
      refine lpo_walk (fun p_9 : Int32 × Int64 × Int32 × XS => xW p l e rmX0_start s m args below meth c E 9 (xQ E rmX0_start below args s (some (.int y.1)) y.2) 0 0 28 [(0, .ref (E.2.2.1 0)), (1, .int x1), (2, .int x2), (3, .int p_9.1), (4, .long p_9.2.1), (6, .int p_9.2.2.1)] [] p_9.2.2.2) (fun q_9 : Int32 × XS => xW p l e rmX0_start s m args below meth c E 9 (xQ E rmX0_start below args s (some (.int y.1)) y.2) 0 0 73 [(3, .int q_9.1)] [] q_9.2) (fun a_9 y_9 hB_9 hc_9 hx_9 => wX0_start_B28 k x1 x2 hC a_9 y_9 hB_9 hc_9 hx_9) _ _ x_9 h_9 ?_ H locs cells slots ls hP hS hB (lv_sub hl [3, 4, 5, 2, 1, 0] rfl)
      intro H locs cells slots ls hP hS hB hl
      refine lv_iload_n hx hb dX0_start_73 rfl (lv_at hl 0 rfl) ?_
      obtain rfl := Option.some.inj hE
      exact x_iret hC hP hS hB dX0_start_74
    · have hE := ip c_4 hE
      refine lv_iconst (v := -1) hx hb dX0_start_18 (by decide) ?_
      obtain rfl := Option.some.inj hE
      exact x_iret hC hP hS hB dX0_start_19
noncomputable def fX0_mean_B53 (k : Nat) (V : XV) (v1 : Int32) (v3 : Int32) (a : Int64 × Int64 × Int32 × XS) : Option ((Int64 × Int64 × Int32 × XS) ⊕ (Int64 × XS)) := if (a.2.2.2.1 9) ≤ a.2.2.1 then (some (.inr (a.1, a.2.2.2))) else ((fX0_oddsAt V a.2.2.2 v1 a.2.2.1).bind fun r_9 => some (.inl ((a.1 + a.2.1), ((a.2.1 / (10 : Int64)) * ((10 : Int32) - r_9.1).toInt64), (a.2.2.1 + (1 : Int32)), r_9.2)))
set_option maxHeartbeats 1000000 in
theorem wX0_mean_B53 {p : Program} {l : Launch} {e : Env} {s : State} {m : MethodId} {args : Array Value} {below : List Frame} {meth : Method} {c : Code} {E : XE} {Q : State → Prop} (k : Nat) (v1 : Int32) (v3 : Int32) (hC : xC E RX0 cX0_mean 12 (some .long) p s m args meth c) (a : Int64 × Int64 × Int32 × XS) (y : (Int64 × Int64 × Int32 × XS) ⊕ (Int64 × XS)) (hE : fX0_mean_B53 k E.2.2.2.2.2 v1 v3 a = some y) (hc : ∀ a : Int64 × Int64 × Int32 × XS, y = .inl a → xW p l e rmX0_mean s m args below meth c E 12 Q 0 0 53 [(0, .ref (E.2.2.1 0)), (1, .int v1), (3, .int v3), (4, .long a.1), (6, .long a.2.1), (8, .int a.2.2.1)] [] a.2.2.2) (hx1 : ∀ b : Int64 × XS, y = .inr b → xW p l e rmX0_mean s m args below meth c E 12 Q 0 0 95 [(3, .int v3), (4, .long b.1)] [] b.2) : xW p l e rmX0_mean s m args below meth c E 12 Q 0 0 53 [(0, .ref (E.2.2.1 0)), (1, .int v1), (3, .int v3), (4, .long a.1), (6, .long a.2.1), (8, .int a.2.2.1)] [] a.2.2.2 := by
  intro H locs cells slots ls hP hS hB hl
  have hx := hC.1
  have hb := hC.2.1
  have hown := hC.2.2.2.2.2.1
  have hts := hC.2.2.2.2.2.2.1
  unfold fX0_mean_B53 at hE
  refine lv_iload hx hb dX0_mean_53 (lv_at hl 5 rfl) ?_
  refine lv_aload_n hx hb dX0_mean_55 rfl (lv_at hl 0 rfl) ?_
  refine gX_272 hC hP dX0_mean_56 ?_
  refine lv_icmp_ge (tgt := 95) hx hb dX0_mean_59 (by decide) (fun c_8 => ?_) (fun c_8 => ?_)
  · have hE := ip c_8 hE
    exact hx1 _ (Option.some.inj hE).symm H locs cells slots ls hP hS hB (lv_sub hl [2, 3] rfl)
  · have hE := iq c_8 hE
    refine lv_lload hx hb dX0_mean_62 (lv_at hl 3 rfl) ?_
    refine lv_lload hx hb dX0_mean_64 (lv_at hl 4 rfl) ?_
    refine lv_ladd hx hb dX0_mean_66 ?_
    refine lv_lstore (lv' := [(4, .long (a.1 + a.2.1)), (0, .ref (E.2.2.1 0)), (1, .int v1), (3, .int v3), (6, .long a.2.1), (8, .int a.2.2.1)]) hx hb dX0_mean_67 hl (Nat.le_of_ble_eq_true rfl) rfl (fun ls hl => ?_)
    refine lv_lload hx hb dX0_mean_69 (lv_at hl 4 rfl) ?_
    refine lv_ldc2 (v := 10) hx hb hown (hts _ q1157) dX0_mean_71 ?_
    refine lv_ldiv hx hb dX0_mean_74 (by decide) ?_
    refine lv_bipush (v := 10) hx hb dX0_mean_75 (by decide) ?_
    refine lv_aload_n hx hb dX0_mean_77 rfl (lv_at hl 1 rfl) ?_
    refine lv_iload_n hx hb dX0_mean_78 rfl (lv_at hl 2 rfl) ?_
    refine lv_iload hx hb dX0_mean_79 (lv_at hl 5 rfl) ?_
    obtain ⟨r_9, h_9, hE⟩ := ob hE
    refine x_callV (rc1 := _) (rs1 := _) [.int v1, .int a.2.2.1] (E.2.2.1 0) hC hP hS hB hl.1 (wX0_oddsAt a.2.2.2 v1 a.2.2.1 r_9 h_9) (xC.c0 hC) (xw_get E _ (k := 0) (by decide)) (cwV 2 hts lkX0_275 rfl rfl rfl cdX0_oddsAt ⟨Nat.le_of_ble_eq_true rfl, Nat.le_of_ble_eq_true rfl⟩) rfl rfl (lv_room (Nat.le_of_ble_eq_true rfl)) ⟨Nat.le_of_eq (Nat.zero_add _), Nat.le_of_eq (Nat.zero_add _)⟩ dX0_mean_81 (fun H locs cells slots hP hS hB => ?_)
    show W p l e _ s m args below meth c H locs cells slots _ (F0 m _ ls (.int r_9.1 :: .int (10 : Int32) :: .long (a.2.1 / (10 : Int64)) :: []))
    refine lv_isub hx hb dX0_mean_84 ?_
    refine lv_i2l hx hb dX0_mean_85 rfl ?_
    refine lv_lmul hx hb dX0_mean_86 ?_
    refine lv_lstore (lv' := [(6, .long ((a.2.1 / (10 : Int64)) * ((10 : Int32) - r_9.1).toInt64)), (4, .long (a.1 + a.2.1)), (0, .ref (E.2.2.1 0)), (1, .int v1), (3, .int v3), (8, .int a.2.2.1)]) hx hb dX0_mean_87 hl (Nat.le_of_ble_eq_true rfl) rfl (fun ls hl => ?_)
    refine lv_iinc (v := (a.2.2.1 + (1 : Int32))) (lv' := [(8, .int (a.2.2.1 + (1 : Int32))), (6, .long ((a.2.1 / (10 : Int64)) * ((10 : Int32) - r_9.1).toInt64)), (4, .long (a.1 + a.2.1)), (0, .ref (E.2.2.1 0)), (1, .int v1), (3, .int v3)]) hx hb dX0_mean_89 hl (k := 5) rfl rfl (Nat.le_of_ble_eq_true rfl) rfl (fun ls hl => ?_)
    refine lv_goto (tgt := 53) hx hb dX0_mean_92 (by decide) ?_
    exact hc _ (Option.some.inj hE).symm H locs cells slots ls hP hS hB (lv_sub hl [3, 4, 5, 2, 1, 0] rfl)
noncomputable def fX0_mean (k : Nat) (V : XV) (z : XS) (x1 : Int32) (x2 : Int32) (x3 : Int32) : Option (Int64 × XS) := (fX0_isChild z x1).bind fun r_1 => if r_1 = 0 then (some ((-1 : Int64), z)) else ((fX0_isPlace x2).bind fun r_3 => if r_3 = 0 then (some ((-1 : Int64), z)) else ((fX0_laysBars k z x2).bind fun r_5 => if (r_5.1 9) ≤ (12 : Int32) then ((fX0_power 20 (10 : Int64) (12 : Int32)).bind fun r_7 => (lpo (fX0_mean_B53 k V x1 x3) k ((0 : Int64), r_7, (0 : Int32), r_5)).bind fun x_10 => (fX0_power 20 (10 : Int64) (12 : Int32)).bind fun r_11 => (fX0_common 100 r_11 x_10.1).bind fun r_12 => if x3 = 0 then (if r_12 = (0 : Int64) then none else some ((x_10.1 / r_12), x_10.2)) else (if r_12 = (0 : Int64) then none else some ((r_11 / r_12), x_10.2))) else (some ((-1 : Int64), r_5))))
set_option maxHeartbeats 1000000 in
theorem wX0_mean {l : Launch} {E : XE} (k : Nat) (z : XS) (x1 : Int32) (x2 : Int32) (x3 : Int32) (y : Int64 × XS) (hE : fX0_mean k E.2.2.2.2.2 z x1 x2 x3 = some y) : xM l yX0_mean (ws_ yX0_mean cX0_mean 12 (some .long)) rmX0_mean E z [.ref (E.2.2.1 0), .int x1, .int x2, .int x3] (some (.long y.1)) y.2 := by
  refine x_met (own := RX0) (by decide) rfl (Nat.le_of_ble_eq_true rfl) (fun p e s m args below meth c hC => ?_)
  intro H locs cells slots ls hP hS hB hl
  have hx := hC.1
  have hb := hC.2.1
  have hown := hC.2.2.2.2.2.1
  have hts := hC.2.2.2.2.2.2.1
  have hl : lv_has ls 12 [(0, .ref (E.2.2.1 0)), (1, .int x1), (2, .int x2), (3, .int x3)] := hl
  unfold fX0_mean at hE
  refine lv_aload_n hx hb dX0_mean_0 rfl (lv_at hl 0 rfl) ?_
  refine lv_iload_n hx hb dX0_mean_1 rfl (lv_at hl 1 rfl) ?_
  obtain ⟨r_1, h_1, hE⟩ := ob hE
  refine x_callV (rc1 := _) (rs1 := _) [.int x1] (E.2.2.1 0) hC hP hS hB hl.1 (wX0_isChild z x1 r_1 h_1) (xC.c0 hC) (xw_get E _ (k := 0) (by decide)) (cwV 1 hts lkX0_159 rfl rfl rfl cdX0_isChild ⟨Nat.le_of_ble_eq_true rfl, Nat.le_of_ble_eq_true rfl⟩) rfl rfl (lv_room (Nat.le_of_ble_eq_true rfl)) ⟨Nat.le_of_eq (Nat.zero_add _), Nat.le_of_eq (Nat.zero_add _)⟩ dX0_mean_2 (fun H locs cells slots hP hS hB => ?_)
  show W p l e _ s m args below meth c H locs cells slots _ (F0 m _ ls (.int r_1 :: []))
  refine lv_if_eq (tgt := 15) hx hb dX0_mean_5 (by decide) (fun c_2 => ?_) (fun c_2 => ?_)
  · have hE := ip c_2 hE
    refine lv_ldc2 (v := -1) hx hb hown (hts _ q1144) dX0_mean_15 ?_
    obtain rfl := Option.some.inj hE
    exact x_lret hC hP hS hB dX0_mean_18
  · have hE := iq c_2 hE
    refine lv_iload_n hx hb dX0_mean_8 rfl (lv_at hl 2 rfl) ?_
    obtain ⟨r_3, h_3, hE⟩ := ob hE
    refine s_calli [.int x2] hC.sC hl.1 (wX0_isPlace x2 r_3 h_3) (va_cwS 1 hts lkX0_68 rfl rfl rfl cdX0_isPlace ⟨Nat.le_of_ble_eq_true rfl, Nat.le_of_ble_eq_true rfl⟩) rfl rfl (lv_room (Nat.le_of_ble_eq_true rfl)) (hB0 hB) dX0_mean_9 ?_
    refine lv_if_ne (tgt := 19) hx hb dX0_mean_12 (by decide) (fun c_4 => ?_) (fun c_4 => ?_)
    · have hE := iq c_4 hE
      refine lv_aload_n hx hb dX0_mean_19 rfl (lv_at hl 0 rfl) ?_
      refine lv_iload_n hx hb dX0_mean_20 rfl (lv_at hl 2 rfl) ?_
      obtain ⟨r_5, h_5, hE⟩ := ob hE
      refine x_callV (rc1 := _) (rs1 := _) [.int x2] (E.2.2.1 0) hC hP hS hB hl.1 (wX0_laysBars k z x2 r_5 h_5) (xC.c0 hC) (xw_get E _ (k := 0) (by decide)) (cwV 1 hts lkX0_287 rfl rfl rfl cdX0_laysBars ⟨Nat.le_of_ble_eq_true rfl, Nat.le_of_ble_eq_true rfl⟩) rfl rfl (lv_room (Nat.le_of_ble_eq_true rfl)) ⟨Nat.le_of_eq (Nat.zero_add _), Nat.le_of_eq (Nat.zero_add _)⟩ dX0_mean_21 (fun H locs cells slots hP hS hB => ?_)
      show W p l e _ s m args below meth c H locs cells slots _ (F0 m _ ls ([]))
      refine lv_aload_n hx hb dX0_mean_24 rfl (lv_at hl 0 rfl) ?_
      refine gX_272 hC hP dX0_mean_25 ?_
      refine lv_bipush (v := 12) hx hb dX0_mean_28 (by decide) ?_
      refine lv_icmp_le (tgt := 37) hx hb dX0_mean_30 (by decide) (fun c_6 => ?_) (fun c_6 => ?_)
      · have hE := ip c_6 hE
        refine lv_lconst (v := 0) hx hb dX0_mean_37 (by decide) ?_
        refine lv_lstore (lv' := [(4, .long (0 : Int64)), (0, .ref (E.2.2.1 0)), (1, .int x1), (2, .int x2), (3, .int x3)]) hx hb dX0_mean_38 hl (Nat.le_of_ble_eq_true rfl) rfl (fun ls hl => ?_)
        refine lv_ldc2 (v := 10) hx hb hown (hts _ q1157) dX0_mean_40 ?_
        refine lv_bipush (v := 12) hx hb dX0_mean_43 (by decide) ?_
        obtain ⟨r_7, h_7, hE⟩ := ob hE
        refine s_calll [.long (10 : Int64), .int (12 : Int32)] hC.sC hl.1 (wX0_power 20 (10 : Int64) (12 : Int32) r_7 h_7) (va_cwS 2 hts lkX0_281 rfl rfl rfl cdX0_power ⟨Nat.le_of_ble_eq_true rfl, Nat.le_of_ble_eq_true rfl⟩) rfl rfl (lv_room (Nat.le_of_ble_eq_true rfl)) (hB0 hB) dX0_mean_45 ?_
        refine lv_lstore (lv' := [(6, .long r_7), (4, .long (0 : Int64)), (0, .ref (E.2.2.1 0)), (1, .int x1), (2, .int x2), (3, .int x3)]) hx hb dX0_mean_48 hl (Nat.le_of_ble_eq_true rfl) rfl (fun ls hl => ?_)
        refine lv_iconst (v := 0) hx hb dX0_mean_50 (by decide) ?_
        refine lv_istore (lv' := [(8, .int (0 : Int32)), (6, .long r_7), (4, .long (0 : Int64)), (0, .ref (E.2.2.1 0)), (1, .int x1), (2, .int x2), (3, .int x3)]) hx hb dX0_mean_51 hl (Nat.le_of_ble_eq_true rfl) rfl (fun ls hl => ?_)
        obtain ⟨x_10, h_10, hE⟩ := ob hE
        refine lpo_walk (fun p_10 : Int64 × Int64 × Int32 × XS => xW p l e rmX0_mean s m args below meth c E 12 (xQ E rmX0_mean below args s (some (.long y.1)) y.2) 0 0 53 [(0, .ref (E.2.2.1 0)), (1, .int x1), (3, .int x3), (4, .long p_10.1), (6, .long p_10.2.1), (8, .int p_10.2.2.1)] [] p_10.2.2.2) (fun q_10 : Int64 × XS => xW p l e rmX0_mean s m args below meth c E 12 (xQ E rmX0_mean below args s (some (.long y.1)) y.2) 0 0 95 [(3, .int x3), (4, .long q_10.1)] [] q_10.2) (fun a_10 y_10 hB_10 hc_10 hx_10 => wX0_mean_B53 k x1 x3 hC a_10 y_10 hB_10 hc_10 hx_10) _ _ x_10 h_10 ?_ H locs cells slots ls hP hS hB (lv_sub hl [3, 4, 6, 2, 1, 0] rfl)
        intro H locs cells slots ls hP hS hB hl
        refine lv_ldc2 (v := 10) hx hb hown (hts _ q1157) dX0_mean_95 ?_
        refine lv_bipush (v := 12) hx hb dX0_mean_98 (by decide) ?_
        obtain ⟨r_11, h_11, hE⟩ := ob hE
        refine s_calll [.long (10 : Int64), .int (12 : Int32)] hC.sC hl.1 (wX0_power 20 (10 : Int64) (12 : Int32) r_11 h_11) (va_cwS 2 hts lkX0_281 rfl rfl rfl cdX0_power ⟨Nat.le_of_ble_eq_true rfl, Nat.le_of_ble_eq_true rfl⟩) rfl rfl (lv_room (Nat.le_of_ble_eq_true rfl)) (hB0 hB) dX0_mean_100 ?_
        refine lv_lstore (lv' := [(8, .long r_11), (3, .int x3), (4, .long x_10.1)]) hx hb dX0_mean_103 hl (Nat.le_of_ble_eq_true rfl) rfl (fun ls hl => ?_)
        refine lv_lload hx hb dX0_mean_105 (lv_at hl 0 rfl) ?_
        refine lv_lload hx hb dX0_mean_107 (lv_at hl 2 rfl) ?_
        obtain ⟨r_12, h_12, hE⟩ := ob hE
        refine s_calll [.long r_11, .long x_10.1] hC.sC hl.1 (wX0_common 100 r_11 x_10.1 r_12 h_12) (va_cwS 2 hts lkX0_278 rfl rfl rfl cdX0_common ⟨Nat.le_of_ble_eq_true rfl, Nat.le_of_ble_eq_true rfl⟩) rfl rfl (lv_room (Nat.le_of_ble_eq_true rfl)) (hB0 hB) dX0_mean_109 ?_
        refine lv_lstore (lv' := [(10, .long r_12), (8, .long r_11), (3, .int x3), (4, .long x_10.1)]) hx hb dX0_mean_112 hl (Nat.le_of_ble_eq_true rfl) rfl (fun ls hl => ?_)
        refine lv_iload_n hx hb dX0_mean_114 rfl (lv_at hl 2 rfl) ?_
        refine lv_if_eq (tgt := 126) hx hb dX0_mean_115 (by decide) (fun c_13 => ?_) (fun c_13 => ?_)
        · have hE := ip c_13 hE
          refine lv_lload hx hb dX0_mean_126 (lv_at hl 3 rfl) ?_
          refine lv_lload hx hb dX0_mean_128 (lv_at hl 0 rfl) ?_
          obtain ⟨c_14, hE⟩ := og hE
          refine lv_ldiv hx hb dX0_mean_130 c_14 ?_
          obtain rfl := Option.some.inj hE
          exact x_lret hC hP hS hB dX0_mean_131
        · have hE := iq c_13 hE
          refine lv_lload hx hb dX0_mean_118 (lv_at hl 1 rfl) ?_
          refine lv_lload hx hb dX0_mean_120 (lv_at hl 0 rfl) ?_
          obtain ⟨c_15, hE⟩ := og hE
          refine lv_ldiv hx hb dX0_mean_122 c_15 ?_
          refine lv_goto (tgt := 131) hx hb dX0_mean_123 (by decide) ?_
          obtain rfl := Option.some.inj hE
          exact x_lret hC hP hS hB dX0_mean_131
      · have hE := iq c_6 hE
        refine lv_ldc2 (v := -1) hx hb hown (hts _ q1144) dX0_mean_33 ?_
        obtain rfl := Option.some.inj hE
        exact x_lret hC hP hS hB dX0_mean_36
    · have hE := ip c_4 hE
      refine lv_ldc2 (v := -1) hx hb hown (hts _ q1144) dX0_mean_15 ?_
      obtain rfl := Option.some.inj hE
      exact x_lret hC hP hS hB dX0_mean_18
noncomputable def fX0_likeWithout (k : Nat) (V : XV) (z : XS) (x1 : Int32) (x2 : Int32) (x3 : Int32) (x4 : Int32) : Option (Int64 × XS) := (fX0_kindAt z x4).bind fun r_1 => if ib ((2 : Int32) + x4) 190 then none else (nm (xA z 9 (upd (z.2.1 9) ((2 : Int32) + x4).toNatClampNeg (0 : Int32))) fun z_2 => (fX0_laysBars k z_2 x2).bind fun r_3 => (fX0_likeOf k V r_3 x1 x3).bind fun r_4 => if ib ((2 : Int32) + x4) 190 then none else (nm (xA r_4.2 9 (upd (r_4.2.2.1 9) ((2 : Int32) + x4).toNatClampNeg r_1)) fun z_5 => some (r_4.1, z_5)))
set_option maxHeartbeats 1000000 in
theorem wX0_likeWithout {l : Launch} {E : XE} (k : Nat) (z : XS) (x1 : Int32) (x2 : Int32) (x3 : Int32) (x4 : Int32) (y : Int64 × XS) (hE : fX0_likeWithout k E.2.2.2.2.2 z x1 x2 x3 x4 = some y) : xM l yX0_likeWithout (ws_ yX0_likeWithout cX0_likeWithout 8 (some .long)) rmX0_likeWithout E z [.ref (E.2.2.1 0), .int x1, .int x2, .int x3, .int x4] (some (.long y.1)) y.2 := by
  refine x_met (own := RX0) (by decide) rfl (Nat.le_of_ble_eq_true rfl) (fun p e s m args below meth c hC => ?_)
  intro H locs cells slots ls hP hS hB hl
  have hx := hC.1
  have hb := hC.2.1
  have hown := hC.2.2.2.2.2.1
  have hts := hC.2.2.2.2.2.2.1
  have hl : lv_has ls 8 [(0, .ref (E.2.2.1 0)), (1, .int x1), (2, .int x2), (3, .int x3), (4, .int x4)] := hl
  unfold fX0_likeWithout at hE
  refine lv_aload_n hx hb dX0_likeWithout_0 rfl (lv_at hl 0 rfl) ?_
  refine lv_iload hx hb dX0_likeWithout_1 (lv_at hl 4 rfl) ?_
  obtain ⟨r_1, h_1, hE⟩ := ob hE
  refine x_callV (rc1 := _) (rs1 := _) [.int x4] (E.2.2.1 0) hC hP hS hB hl.1 (wX0_kindAt z x4 r_1 h_1) (xC.c0 hC) (xw_get E _ (k := 0) (by decide)) (cwV 1 hts lkX0_172 rfl rfl rfl cdX0_kindAt ⟨Nat.le_of_ble_eq_true rfl, Nat.le_of_ble_eq_true rfl⟩) rfl rfl (lv_room (Nat.le_of_ble_eq_true rfl)) ⟨Nat.le_of_eq (Nat.zero_add _), Nat.le_of_eq (Nat.zero_add _)⟩ dX0_likeWithout_3 (fun H locs cells slots hP hS hB => ?_)
  show W p l e _ s m args below meth c H locs cells slots _ (F0 m _ ls (.int r_1 :: []))
  refine lv_istore (lv' := [(5, .int r_1), (0, .ref (E.2.2.1 0)), (1, .int x1), (2, .int x2), (3, .int x3), (4, .int x4)]) hx hb dX0_likeWithout_6 hl (Nat.le_of_ble_eq_true rfl) rfl (fun ls hl => ?_)
  refine lv_aload_n hx hb dX0_likeWithout_8 rfl (lv_at hl 1 rfl) ?_
  refine gX_21 hC hP dX0_likeWithout_9 ?_
  refine gN_65_1 hC hP dX0_likeWithout_12 ?_
  refine lv_iconst (v := 2) hx hb dX0_likeWithout_15 (by decide) ?_
  refine lv_iload hx hb dX0_likeWithout_16 (lv_at hl 5 rfl) ?_
  refine lv_iadd hx hb dX0_likeWithout_18 ?_
  refine lv_iconst (v := 0) hx hb dX0_likeWithout_19 (by decide) ?_
  obtain ⟨c_2, hE⟩ := og hE
  obtain ⟨z_2, ez_2, hE⟩ := on hE
  refine x_iast hC hP hS (⟨by decide, rfl, rfl⟩ : xint 9 190) c_2 ez_2 dX0_likeWithout_20 (fun H locs hP hS => ?_)
  refine lv_aload_n hx hb dX0_likeWithout_21 rfl (lv_at hl 1 rfl) ?_
  refine lv_iload_n hx hb dX0_likeWithout_22 rfl (lv_at hl 3 rfl) ?_
  obtain ⟨r_3, h_3, hE⟩ := ob hE
  refine x_callV (rc1 := _) (rs1 := _) [.int x2] (E.2.2.1 0) hC hP hS hB hl.1 (wX0_laysBars k z_2 x2 r_3 h_3) (xC.c0 hC) (xw_get E _ (k := 0) (by decide)) (cwV 1 hts lkX0_287 rfl rfl rfl cdX0_laysBars ⟨Nat.le_of_ble_eq_true rfl, Nat.le_of_ble_eq_true rfl⟩) rfl rfl (lv_room (Nat.le_of_ble_eq_true rfl)) ⟨Nat.le_of_eq (Nat.zero_add _), Nat.le_of_eq (Nat.zero_add _)⟩ dX0_likeWithout_23 (fun H locs cells slots hP hS hB => ?_)
  show W p l e _ s m args below meth c H locs cells slots _ (F0 m _ ls ([]))
  refine lv_aload_n hx hb dX0_likeWithout_26 rfl (lv_at hl 1 rfl) ?_
  refine lv_iload_n hx hb dX0_likeWithout_27 rfl (lv_at hl 2 rfl) ?_
  refine lv_iload_n hx hb dX0_likeWithout_28 rfl (lv_at hl 4 rfl) ?_
  obtain ⟨r_4, h_4, hE⟩ := ob hE
  refine x_callV (rc1 := _) (rs1 := _) [.int x1, .int x3] (E.2.2.1 0) hC hP hS hB hl.1 (wX0_likeOf k r_3 x1 x3 r_4 h_4) (xC.c0 hC) (xw_get E _ (k := 0) (by decide)) (cwV 2 hts lkX0_290 rfl rfl rfl cdX0_likeOf ⟨Nat.le_of_ble_eq_true rfl, Nat.le_of_ble_eq_true rfl⟩) rfl rfl (lv_room (Nat.le_of_ble_eq_true rfl)) ⟨Nat.le_of_eq (Nat.zero_add _), Nat.le_of_eq (Nat.zero_add _)⟩ dX0_likeWithout_29 (fun H locs cells slots hP hS hB => ?_)
  show W p l e _ s m args below meth c H locs cells slots _ (F0 m _ ls (.long r_4.1 :: []))
  refine lv_lstore (lv' := [(6, .long r_4.1), (5, .int r_1), (0, .ref (E.2.2.1 0)), (1, .int x1), (2, .int x2), (3, .int x3), (4, .int x4)]) hx hb dX0_likeWithout_32 hl (Nat.le_of_ble_eq_true rfl) rfl (fun ls hl => ?_)
  refine lv_aload_n hx hb dX0_likeWithout_34 rfl (lv_at hl 2 rfl) ?_
  refine gX_21 hC hP dX0_likeWithout_35 ?_
  refine gN_65_1 hC hP dX0_likeWithout_38 ?_
  refine lv_iconst (v := 2) hx hb dX0_likeWithout_41 (by decide) ?_
  refine lv_iload hx hb dX0_likeWithout_42 (lv_at hl 6 rfl) ?_
  refine lv_iadd hx hb dX0_likeWithout_44 ?_
  refine lv_iload hx hb dX0_likeWithout_45 (lv_at hl 1 rfl) ?_
  obtain ⟨c_5, hE⟩ := og hE
  obtain ⟨z_5, ez_5, hE⟩ := on hE
  refine x_iast hC hP hS (⟨by decide, rfl, rfl⟩ : xint 9 190) c_5 ez_5 dX0_likeWithout_47 (fun H locs hP hS => ?_)
  refine lv_lload hx hb dX0_likeWithout_48 (lv_at hl 0 rfl) ?_
  obtain rfl := Option.some.inj hE
  exact x_lret hC hP hS hB dX0_likeWithout_50
noncomputable def fX0_which_J76 (k : Nat) (V : XV) (z : XS) (v1 : Int32) (v2 : Int32) (v3 : Int32) (x4 : Int64) (x6 : Int32) (x7 : Int32) (t0 : Int64) : Option ((Int64 × Int32 × Int32 × XS) ⊕ (Int32 × XS)) := if 0 < (lg_cmp t0 x4) then (some (.inl (t0, x7, (x7 + (1 : Int32)), z))) else (some (.inl (x4, x6, (x7 + (1 : Int32)), z)))
set_option maxHeartbeats 1000000 in
theorem wX0_which_J76 {p : Program} {l : Launch} {e : Env} {s : State} {m : MethodId} {args : Array Value} {below : List Frame} {meth : Method} {c : Code} {E : XE} {Q : State → Prop} (k : Nat) (z : XS) (v1 : Int32) (v2 : Int32) (v3 : Int32) (x4 : Int64) (x6 : Int32) (x7 : Int32) (t0 : Int64) (hC : xC E RX0 cX0_which 10 (some .int) p s m args meth c) (y : (Int64 × Int32 × Int32 × XS) ⊕ (Int32 × XS)) (hE : fX0_which_J76 k E.2.2.2.2.2 z v1 v2 v3 x4 x6 x7 t0 = some y) (hc : ∀ a : Int64 × Int32 × Int32 × XS, y = .inl a → xW p l e rmX0_which s m args below meth c E 10 Q 0 0 46 [(0, .ref (E.2.2.1 0)), (1, .int v1), (2, .int v2), (3, .int v3), (4, .long a.1), (6, .int a.2.1), (7, .int a.2.2.1)] [] a.2.2.2) (hx1 : ∀ b : Int32 × XS, y = .inr b → xW p l e rmX0_which s m args below meth c E 10 Q 0 0 103 [(6, .int b.1)] [] b.2) : xW p l e rmX0_which s m args below meth c E 10 Q 0 0 76 [(0, .ref (E.2.2.1 0)), (1, .int v1), (2, .int v2), (3, .int v3), (4, .long x4), (6, .int x6), (7, .int x7)] [.long t0] z := by
  intro H locs cells slots ls hP hS hB hl
  have hx := hC.1
  have hb := hC.2.1
  have hown := hC.2.2.2.2.2.1
  have hts := hC.2.2.2.2.2.2.1
  unfold fX0_which_J76 at hE
  refine lv_lstore (lv' := [(8, .long t0), (0, .ref (E.2.2.1 0)), (1, .int v1), (2, .int v2), (3, .int v3), (4, .long x4), (6, .int x6), (7, .int x7)]) hx hb dX0_which_76 hl (Nat.le_of_ble_eq_true rfl) rfl (fun ls hl => ?_)
  refine lv_lload hx hb dX0_which_78 (lv_at hl 0 rfl) ?_
  refine lv_lload hx hb dX0_which_80 (lv_at hl 5 rfl) ?_
  refine W.lcmp hx hb dX0_which_82 ?_
  refine lv_if_gt (tgt := 89) hx hb dX0_which_83 (by decide) (fun c_12 => ?_) (fun c_12 => ?_)
  · have hE := ip c_12 hE
    refine lv_iload hx hb dX0_which_89 (lv_at hl 7 rfl) ?_
    refine lv_istore (lv' := [(6, .int x7), (8, .long t0), (0, .ref (E.2.2.1 0)), (1, .int v1), (2, .int v2), (3, .int v3), (4, .long x4), (7, .int x7)]) hx hb dX0_which_91 hl (Nat.le_of_ble_eq_true rfl) rfl (fun ls hl => ?_)
    refine lv_lload hx hb dX0_which_93 (lv_at hl 1 rfl) ?_
    refine lv_lstore (lv' := [(4, .long t0), (6, .int x7), (8, .long t0), (0, .ref (E.2.2.1 0)), (1, .int v1), (2, .int v2), (3, .int v3), (7, .int x7)]) hx hb dX0_which_95 hl (Nat.le_of_ble_eq_true rfl) rfl (fun ls hl => ?_)
    refine lv_iinc (v := (x7 + (1 : Int32))) (lv' := [(7, .int (x7 + (1 : Int32))), (4, .long t0), (6, .int x7), (8, .long t0), (0, .ref (E.2.2.1 0)), (1, .int v1), (2, .int v2), (3, .int v3)]) hx hb dX0_which_97 hl (k := 7) rfl rfl (Nat.le_of_ble_eq_true rfl) rfl (fun ls hl => ?_)
    refine lv_goto (tgt := 46) hx hb dX0_which_100 (by decide) ?_
    exact hc _ (Option.some.inj hE).symm H locs cells slots ls hP hS hB (lv_sub hl [4, 5, 6, 7, 1, 2, 0] rfl)
  · have hE := iq c_12 hE
    refine lv_goto (tgt := 97) hx hb dX0_which_86 (by decide) ?_
    refine lv_iinc (v := (x7 + (1 : Int32))) (lv' := [(7, .int (x7 + (1 : Int32))), (8, .long t0), (0, .ref (E.2.2.1 0)), (1, .int v1), (2, .int v2), (3, .int v3), (4, .long x4), (6, .int x6)]) hx hb dX0_which_97 hl (k := 7) rfl rfl (Nat.le_of_ble_eq_true rfl) rfl (fun ls hl => ?_)
    refine lv_goto (tgt := 46) hx hb dX0_which_100 (by decide) ?_
    exact hc _ (Option.some.inj hE).symm H locs cells slots ls hP hS hB (lv_sub hl [2, 3, 4, 5, 6, 7, 0] rfl)
noncomputable def fX0_which_B46 (k : Nat) (V : XV) (v1 : Int32) (v2 : Int32) (v3 : Int32) (a : Int64 × Int32 × Int32 × XS) : Option ((Int64 × Int32 × Int32 × XS) ⊕ (Int32 × XS)) := if (30 : Int32) ≤ a.2.2.1 then (some (.inr (a.2.1, a.2.2.2))) else ((fX0_kindAt a.2.2.2 a.2.2.1).bind fun r_10 => if r_10 = (1 : Int32) then ((fX0_likeWithout k V a.2.2.2 v1 v2 v3 a.2.2.1).bind fun r_13 => (fX0_which_J76 k V r_13.2 v1 v2 v3 a.1 a.2.1 a.2.2.1 r_13.1)) else ((fX0_which_J76 k V a.2.2.2 v1 v2 v3 a.1 a.2.1 a.2.2.1 (0 : Int64))))
set_option maxHeartbeats 1000000 in
theorem wX0_which_B46 {p : Program} {l : Launch} {e : Env} {s : State} {m : MethodId} {args : Array Value} {below : List Frame} {meth : Method} {c : Code} {E : XE} {Q : State → Prop} (k : Nat) (v1 : Int32) (v2 : Int32) (v3 : Int32) (hC : xC E RX0 cX0_which 10 (some .int) p s m args meth c) (a : Int64 × Int32 × Int32 × XS) (y : (Int64 × Int32 × Int32 × XS) ⊕ (Int32 × XS)) (hE : fX0_which_B46 k E.2.2.2.2.2 v1 v2 v3 a = some y) (hc : ∀ a : Int64 × Int32 × Int32 × XS, y = .inl a → xW p l e rmX0_which s m args below meth c E 10 Q 0 0 46 [(0, .ref (E.2.2.1 0)), (1, .int v1), (2, .int v2), (3, .int v3), (4, .long a.1), (6, .int a.2.1), (7, .int a.2.2.1)] [] a.2.2.2) (hx1 : ∀ b : Int32 × XS, y = .inr b → xW p l e rmX0_which s m args below meth c E 10 Q 0 0 103 [(6, .int b.1)] [] b.2) : xW p l e rmX0_which s m args below meth c E 10 Q 0 0 46 [(0, .ref (E.2.2.1 0)), (1, .int v1), (2, .int v2), (3, .int v3), (4, .long a.1), (6, .int a.2.1), (7, .int a.2.2.1)] [] a.2.2.2 := by
  intro H locs cells slots ls hP hS hB hl
  have hx := hC.1
  have hb := hC.2.1
  have hown := hC.2.2.2.2.2.1
  have hts := hC.2.2.2.2.2.2.1
  unfold fX0_which_B46 at hE
  refine lv_iload hx hb dX0_which_46 (lv_at hl 6 rfl) ?_
  refine lv_bipush (v := 30) hx hb dX0_which_48 (by decide) ?_
  refine lv_icmp_ge (tgt := 103) hx hb dX0_which_50 (by decide) (fun c_9 => ?_) (fun c_9 => ?_)
  · have hE := ip c_9 hE
    exact hx1 _ (Option.some.inj hE).symm H locs cells slots ls hP hS hB (lv_sub hl [5] rfl)
  · have hE := iq c_9 hE
    refine lv_aload_n hx hb dX0_which_53 rfl (lv_at hl 0 rfl) ?_
    refine lv_iload hx hb dX0_which_54 (lv_at hl 6 rfl) ?_
    obtain ⟨r_10, h_10, hE⟩ := ob hE
    refine x_callV (rc1 := _) (rs1 := _) [.int a.2.2.1] (E.2.2.1 0) hC hP hS hB hl.1 (wX0_kindAt a.2.2.2 a.2.2.1 r_10 h_10) (xC.c0 hC) (xw_get E _ (k := 0) (by decide)) (cwV 1 hts lkX0_172 rfl rfl rfl cdX0_kindAt ⟨Nat.le_of_ble_eq_true rfl, Nat.le_of_ble_eq_true rfl⟩) rfl rfl (lv_room (Nat.le_of_ble_eq_true rfl)) ⟨Nat.le_of_eq (Nat.zero_add _), Nat.le_of_eq (Nat.zero_add _)⟩ dX0_which_56 (fun H locs cells slots hP hS hB => ?_)
    show W p l e _ s m args below meth c H locs cells slots _ (F0 m _ ls (.int r_10 :: []))
    refine lv_iconst (v := 1) hx hb dX0_which_59 (by decide) ?_
    refine lv_icmp_ne (tgt := 75) hx hb dX0_which_60 (by decide) (fun c_11 => ?_) (fun c_11 => ?_)
    · have hE := iq c_11 hE
      refine lv_lconst (v := 0) hx hb dX0_which_75 (by decide) ?_
      exact wX0_which_J76 k a.2.2.2 v1 v2 v3 a.1 a.2.1 a.2.2.1 (0 : Int64) hC y hE hc hx1 H locs cells slots ls hP hS hB hl
    · have hE := ip c_11 hE
      refine lv_aload_n hx hb dX0_which_63 rfl (lv_at hl 0 rfl) ?_
      refine lv_iload_n hx hb dX0_which_64 rfl (lv_at hl 1 rfl) ?_
      refine lv_iload_n hx hb dX0_which_65 rfl (lv_at hl 2 rfl) ?_
      refine lv_iload_n hx hb dX0_which_66 rfl (lv_at hl 3 rfl) ?_
      refine lv_iload hx hb dX0_which_67 (lv_at hl 6 rfl) ?_
      obtain ⟨r_13, h_13, hE⟩ := ob hE
      refine x_callV (rc1 := _) (rs1 := _) [.int v1, .int v2, .int v3, .int a.2.2.1] (E.2.2.1 0) hC hP hS hB hl.1 (wX0_likeWithout k a.2.2.2 v1 v2 v3 a.2.2.1 r_13 h_13) (xC.c0 hC) (xw_get E _ (k := 0) (by decide)) (cwV 4 hts lkX0_296 rfl rfl rfl cdX0_likeWithout ⟨Nat.le_of_ble_eq_true rfl, Nat.le_of_ble_eq_true rfl⟩) rfl rfl (lv_room (Nat.le_of_ble_eq_true rfl)) ⟨Nat.le_of_eq (Nat.zero_add _), Nat.le_of_eq (Nat.zero_add _)⟩ dX0_which_69 (fun H locs cells slots hP hS hB => ?_)
      show W p l e _ s m args below meth c H locs cells slots _ (F0 m _ ls (.long r_13.1 :: []))
      refine lv_goto (tgt := 76) hx hb dX0_which_72 (by decide) ?_
      exact wX0_which_J76 k r_13.2 v1 v2 v3 a.1 a.2.1 a.2.2.1 r_13.1 hC y hE hc hx1 H locs cells slots ls hP hS hB hl
noncomputable def fX0_which (k : Nat) (V : XV) (z : XS) (x1 : Int32) (x2 : Int32) (x3 : Int32) : Option (Int32 × XS) := (fX0_isChild z x1).bind fun r_1 => if r_1 = 0 then (some ((-1 : Int32), z)) else ((fX0_isPlace x2).bind fun r_3 => if r_3 = 0 then (some ((-1 : Int32), z)) else ((fX0_in x3 (0 : Int32) (12 : Int32)).bind fun r_5 => if r_5 = 0 then (some ((-1 : Int32), z)) else ((fX0_laysBars k z x2).bind fun r_7 => (fX0_likeOf k V r_7 x1 x3).bind fun r_8 => (lpo (fX0_which_B46 k V x1 x2 x3) k (r_8.1, (-1 : Int32), (0 : Int32), r_8.2)).bind fun x_14 => some (x_14.1, x_14.2))))
set_option maxHeartbeats 1000000 in
theorem wX0_which {l : Launch} {E : XE} (k : Nat) (z : XS) (x1 : Int32) (x2 : Int32) (x3 : Int32) (y : Int32 × XS) (hE : fX0_which k E.2.2.2.2.2 z x1 x2 x3 = some y) : xM l yX0_which (ws_ yX0_which cX0_which 10 (some .int)) rmX0_which E z [.ref (E.2.2.1 0), .int x1, .int x2, .int x3] (some (.int y.1)) y.2 := by
  refine x_met (own := RX0) (by decide) rfl (Nat.le_of_ble_eq_true rfl) (fun p e s m args below meth c hC => ?_)
  intro H locs cells slots ls hP hS hB hl
  have hx := hC.1
  have hb := hC.2.1
  have hown := hC.2.2.2.2.2.1
  have hts := hC.2.2.2.2.2.2.1
  have hl : lv_has ls 10 [(0, .ref (E.2.2.1 0)), (1, .int x1), (2, .int x2), (3, .int x3)] := hl
  unfold fX0_which at hE
  refine lv_aload_n hx hb dX0_which_0 rfl (lv_at hl 0 rfl) ?_
  refine lv_iload_n hx hb dX0_which_1 rfl (lv_at hl 1 rfl) ?_
  obtain ⟨r_1, h_1, hE⟩ := ob hE
  refine x_callV (rc1 := _) (rs1 := _) [.int x1] (E.2.2.1 0) hC hP hS hB hl.1 (wX0_isChild z x1 r_1 h_1) (xC.c0 hC) (xw_get E _ (k := 0) (by decide)) (cwV 1 hts lkX0_159 rfl rfl rfl cdX0_isChild ⟨Nat.le_of_ble_eq_true rfl, Nat.le_of_ble_eq_true rfl⟩) rfl rfl (lv_room (Nat.le_of_ble_eq_true rfl)) ⟨Nat.le_of_eq (Nat.zero_add _), Nat.le_of_eq (Nat.zero_add _)⟩ dX0_which_2 (fun H locs cells slots hP hS hB => ?_)
  show W p l e _ s m args below meth c H locs cells slots _ (F0 m _ ls (.int r_1 :: []))
  refine lv_if_eq (tgt := 25) hx hb dX0_which_5 (by decide) (fun c_2 => ?_) (fun c_2 => ?_)
  · have hE := ip c_2 hE
    refine lv_iconst (v := -1) hx hb dX0_which_25 (by decide) ?_
    obtain rfl := Option.some.inj hE
    exact x_iret hC hP hS hB dX0_which_26
  · have hE := iq c_2 hE
    refine lv_iload_n hx hb dX0_which_8 rfl (lv_at hl 2 rfl) ?_
    obtain ⟨r_3, h_3, hE⟩ := ob hE
    refine s_calli [.int x2] hC.sC hl.1 (wX0_isPlace x2 r_3 h_3) (va_cwS 1 hts lkX0_68 rfl rfl rfl cdX0_isPlace ⟨Nat.le_of_ble_eq_true rfl, Nat.le_of_ble_eq_true rfl⟩) rfl rfl (lv_room (Nat.le_of_ble_eq_true rfl)) (hB0 hB) dX0_which_9 ?_
    refine lv_if_eq (tgt := 25) hx hb dX0_which_12 (by decide) (fun c_4 => ?_) (fun c_4 => ?_)
    · have hE := ip c_4 hE
      refine lv_iconst (v := -1) hx hb dX0_which_25 (by decide) ?_
      obtain rfl := Option.some.inj hE
      exact x_iret hC hP hS hB dX0_which_26
    · have hE := iq c_4 hE
      refine lv_iload_n hx hb dX0_which_15 rfl (lv_at hl 3 rfl) ?_
      refine lv_iconst (v := 0) hx hb dX0_which_16 (by decide) ?_
      refine lv_bipush (v := 12) hx hb dX0_which_17 (by decide) ?_
      obtain ⟨r_5, h_5, hE⟩ := ob hE
      refine s_calli [.int x3, .int (0 : Int32), .int (12 : Int32)] hC.sC hl.1 (wX0_in x3 (0 : Int32) (12 : Int32) r_5 h_5) (va_cwS 3 hts lkX0_58 rfl rfl rfl cdX0_in ⟨Nat.le_of_ble_eq_true rfl, Nat.le_of_ble_eq_true rfl⟩) rfl rfl (lv_room (Nat.le_of_ble_eq_true rfl)) (hB0 hB) dX0_which_19 ?_
      refine lv_if_ne (tgt := 27) hx hb dX0_which_22 (by decide) (fun c_6 => ?_) (fun c_6 => ?_)
      · have hE := iq c_6 hE
        refine lv_aload_n hx hb dX0_which_27 rfl (lv_at hl 0 rfl) ?_
        refine lv_iload_n hx hb dX0_which_28 rfl (lv_at hl 2 rfl) ?_
        obtain ⟨r_7, h_7, hE⟩ := ob hE
        refine x_callV (rc1 := _) (rs1 := _) [.int x2] (E.2.2.1 0) hC hP hS hB hl.1 (wX0_laysBars k z x2 r_7 h_7) (xC.c0 hC) (xw_get E _ (k := 0) (by decide)) (cwV 1 hts lkX0_287 rfl rfl rfl cdX0_laysBars ⟨Nat.le_of_ble_eq_true rfl, Nat.le_of_ble_eq_true rfl⟩) rfl rfl (lv_room (Nat.le_of_ble_eq_true rfl)) ⟨Nat.le_of_eq (Nat.zero_add _), Nat.le_of_eq (Nat.zero_add _)⟩ dX0_which_29 (fun H locs cells slots hP hS hB => ?_)
        show W p l e _ s m args below meth c H locs cells slots _ (F0 m _ ls ([]))
        refine lv_aload_n hx hb dX0_which_32 rfl (lv_at hl 0 rfl) ?_
        refine lv_iload_n hx hb dX0_which_33 rfl (lv_at hl 1 rfl) ?_
        refine lv_iload_n hx hb dX0_which_34 rfl (lv_at hl 3 rfl) ?_
        obtain ⟨r_8, h_8, hE⟩ := ob hE
        refine x_callV (rc1 := _) (rs1 := _) [.int x1, .int x3] (E.2.2.1 0) hC hP hS hB hl.1 (wX0_likeOf k r_7 x1 x3 r_8 h_8) (xC.c0 hC) (xw_get E _ (k := 0) (by decide)) (cwV 2 hts lkX0_290 rfl rfl rfl cdX0_likeOf ⟨Nat.le_of_ble_eq_true rfl, Nat.le_of_ble_eq_true rfl⟩) rfl rfl (lv_room (Nat.le_of_ble_eq_true rfl)) ⟨Nat.le_of_eq (Nat.zero_add _), Nat.le_of_eq (Nat.zero_add _)⟩ dX0_which_35 (fun H locs cells slots hP hS hB => ?_)
        show W p l e _ s m args below meth c H locs cells slots _ (F0 m _ ls (.long r_8.1 :: []))
        refine lv_lstore (lv' := [(4, .long r_8.1), (0, .ref (E.2.2.1 0)), (1, .int x1), (2, .int x2), (3, .int x3)]) hx hb dX0_which_38 hl (Nat.le_of_ble_eq_true rfl) rfl (fun ls hl => ?_)
        refine lv_iconst (v := -1) hx hb dX0_which_40 (by decide) ?_
        refine lv_istore (lv' := [(6, .int (-1 : Int32)), (4, .long r_8.1), (0, .ref (E.2.2.1 0)), (1, .int x1), (2, .int x2), (3, .int x3)]) hx hb dX0_which_41 hl (Nat.le_of_ble_eq_true rfl) rfl (fun ls hl => ?_)
        refine lv_iconst (v := 0) hx hb dX0_which_43 (by decide) ?_
        refine lv_istore (lv' := [(7, .int (0 : Int32)), (6, .int (-1 : Int32)), (4, .long r_8.1), (0, .ref (E.2.2.1 0)), (1, .int x1), (2, .int x2), (3, .int x3)]) hx hb dX0_which_44 hl (Nat.le_of_ble_eq_true rfl) rfl (fun ls hl => ?_)
        obtain ⟨x_14, h_14, hE⟩ := ob hE
        refine lpo_walk (fun p_14 : Int64 × Int32 × Int32 × XS => xW p l e rmX0_which s m args below meth c E 10 (xQ E rmX0_which below args s (some (.int y.1)) y.2) 0 0 46 [(0, .ref (E.2.2.1 0)), (1, .int x1), (2, .int x2), (3, .int x3), (4, .long p_14.1), (6, .int p_14.2.1), (7, .int p_14.2.2.1)] [] p_14.2.2.2) (fun q_14 : Int32 × XS => xW p l e rmX0_which s m args below meth c E 10 (xQ E rmX0_which below args s (some (.int y.1)) y.2) 0 0 103 [(6, .int q_14.1)] [] q_14.2) (fun a_14 y_14 hB_14 hc_14 hx_14 => wX0_which_B46 k x1 x2 x3 hC a_14 y_14 hB_14 hc_14 hx_14) _ _ x_14 h_14 ?_ H locs cells slots ls hP hS hB (lv_sub hl [3, 4, 5, 6, 2, 1, 0] rfl)
        intro H locs cells slots ls hP hS hB hl
        refine lv_iload hx hb dX0_which_103 (lv_at hl 0 rfl) ?_
        obtain rfl := Option.some.inj hE
        exact x_iret hC hP hS hB dX0_which_105
      · have hE := ip c_6 hE
        refine lv_iconst (v := -1) hx hb dX0_which_25 (by decide) ?_
        obtain rfl := Option.some.inj hE
        exact x_iret hC hP hS hB dX0_which_26
noncomputable def fX0_nth (k : Nat) (z : XS) (x1 : Int32) (x2 : Int32) : Option (Int32 × XS) := (fX0_isPlace x1).bind fun r_1 => if r_1 = 0 then (some ((-1 : Int32), z)) else ((fX0_in x2 (1 : Int32) (60 : Int32)).bind fun r_3 => if r_3 = 0 then (some ((-1 : Int32), z)) else ((fX0_laysBars k z x1).bind fun r_5 => if x2 ≤ (r_5.1 9) then (if ib (x2 - (1 : Int32)) 60 then none else (some ((r_5.2.1 6 (x2 - (1 : Int32)).toNatClampNeg), r_5))) else (some ((-1 : Int32), r_5))))
set_option maxHeartbeats 1000000 in
theorem wX0_nth {l : Launch} {E : XE} (k : Nat) (z : XS) (x1 : Int32) (x2 : Int32) (y : Int32 × XS) (hE : fX0_nth k z x1 x2 = some y) : xM l yX0_nth (ws_ yX0_nth cX0_nth 3 (some .int)) rmX0_nth E z [.ref (E.2.2.1 0), .int x1, .int x2] (some (.int y.1)) y.2 := by
  refine x_met (own := RX0) (by decide) rfl (Nat.le_of_ble_eq_true rfl) (fun p e s m args below meth c hC => ?_)
  intro H locs cells slots ls hP hS hB hl
  have hx := hC.1
  have hb := hC.2.1
  have hown := hC.2.2.2.2.2.1
  have hts := hC.2.2.2.2.2.2.1
  have hl : lv_has ls 3 [(0, .ref (E.2.2.1 0)), (1, .int x1), (2, .int x2)] := hl
  unfold fX0_nth at hE
  refine lv_iload_n hx hb dX0_nth_0 rfl (lv_at hl 1 rfl) ?_
  obtain ⟨r_1, h_1, hE⟩ := ob hE
  refine s_calli [.int x1] hC.sC hl.1 (wX0_isPlace x1 r_1 h_1) (va_cwS 1 hts lkX0_68 rfl rfl rfl cdX0_isPlace ⟨Nat.le_of_ble_eq_true rfl, Nat.le_of_ble_eq_true rfl⟩) rfl rfl (lv_room (Nat.le_of_ble_eq_true rfl)) (hB0 hB) dX0_nth_1 ?_
  refine lv_if_eq (tgt := 17) hx hb dX0_nth_4 (by decide) (fun c_2 => ?_) (fun c_2 => ?_)
  · have hE := ip c_2 hE
    refine lv_iconst (v := -1) hx hb dX0_nth_17 (by decide) ?_
    obtain rfl := Option.some.inj hE
    exact x_iret hC hP hS hB dX0_nth_18
  · have hE := iq c_2 hE
    refine lv_iload_n hx hb dX0_nth_7 rfl (lv_at hl 2 rfl) ?_
    refine lv_iconst (v := 1) hx hb dX0_nth_8 (by decide) ?_
    refine lv_bipush (v := 60) hx hb dX0_nth_9 (by decide) ?_
    obtain ⟨r_3, h_3, hE⟩ := ob hE
    refine s_calli [.int x2, .int (1 : Int32), .int (60 : Int32)] hC.sC hl.1 (wX0_in x2 (1 : Int32) (60 : Int32) r_3 h_3) (va_cwS 3 hts lkX0_58 rfl rfl rfl cdX0_in ⟨Nat.le_of_ble_eq_true rfl, Nat.le_of_ble_eq_true rfl⟩) rfl rfl (lv_room (Nat.le_of_ble_eq_true rfl)) (hB0 hB) dX0_nth_11 ?_
    refine lv_if_ne (tgt := 19) hx hb dX0_nth_14 (by decide) (fun c_4 => ?_) (fun c_4 => ?_)
    · have hE := iq c_4 hE
      refine lv_aload_n hx hb dX0_nth_19 rfl (lv_at hl 0 rfl) ?_
      refine lv_iload_n hx hb dX0_nth_20 rfl (lv_at hl 1 rfl) ?_
      obtain ⟨r_5, h_5, hE⟩ := ob hE
      refine x_callV (rc1 := _) (rs1 := _) [.int x1] (E.2.2.1 0) hC hP hS hB hl.1 (wX0_laysBars k z x1 r_5 h_5) (xC.c0 hC) (xw_get E _ (k := 0) (by decide)) (cwV 1 hts lkX0_287 rfl rfl rfl cdX0_laysBars ⟨Nat.le_of_ble_eq_true rfl, Nat.le_of_ble_eq_true rfl⟩) rfl rfl (lv_room (Nat.le_of_ble_eq_true rfl)) ⟨Nat.le_of_eq (Nat.zero_add _), Nat.le_of_eq (Nat.zero_add _)⟩ dX0_nth_21 (fun H locs cells slots hP hS hB => ?_)
      show W p l e _ s m args below meth c H locs cells slots _ (F0 m _ ls ([]))
      refine lv_iload_n hx hb dX0_nth_24 rfl (lv_at hl 2 rfl) ?_
      refine lv_aload_n hx hb dX0_nth_25 rfl (lv_at hl 0 rfl) ?_
      refine gX_272 hC hP dX0_nth_26 ?_
      refine lv_icmp_le (tgt := 36) hx hb dX0_nth_29 (by decide) (fun c_6 => ?_) (fun c_6 => ?_)
      · have hE := ip c_6 hE
        refine lv_aload_n hx hb dX0_nth_36 rfl (lv_at hl 0 rfl) ?_
        refine gX_46 hC hP dX0_nth_37 ?_
        refine lv_iload_n hx hb dX0_nth_40 rfl (lv_at hl 2 rfl) ?_
        refine lv_iconst (v := 1) hx hb dX0_nth_41 (by decide) ?_
        refine lv_isub hx hb dX0_nth_42 ?_
        obtain ⟨c_7, hE⟩ := og hE
        refine x_iald hC hP (⟨by decide, rfl, rfl⟩ : xint 6 60) c_7 dX0_nth_43 ?_
        obtain rfl := Option.some.inj hE
        exact x_iret hC hP hS hB dX0_nth_44
      · have hE := iq c_6 hE
        refine lv_iconst (v := -1) hx hb dX0_nth_32 (by decide) ?_
        refine lv_goto (tgt := 44) hx hb dX0_nth_33 (by decide) ?_
        obtain rfl := Option.some.inj hE
        exact x_iret hC hP hS hB dX0_nth_44
    · have hE := ip c_4 hE
      refine lv_iconst (v := -1) hx hb dX0_nth_17 (by decide) ?_
      obtain rfl := Option.some.inj hE
      exact x_iret hC hP hS hB dX0_nth_18
noncomputable def fX0_value (z : XS) (x1 : Int32) (x2 : Int32) : Option (Int32 × XS) := (fX0_in x1 (0 : Int32) (12 : Int32)).bind fun r_1 => if r_1 = 0 then (some ((0 : Int32), z)) else ((fX0_in x2 (0 : Int32) (99 : Int32)).bind fun r_3 => if r_3 = 0 then (some ((0 : Int32), z)) else (if ib x1 13 then none else (nm (xA z 12 (upd (z.2.1 12) x1.toNatClampNeg x2)) fun z_5 => some ((1 : Int32), z_5))))
set_option maxHeartbeats 1000000 in
theorem wX0_value {l : Launch} {E : XE} (z : XS) (x1 : Int32) (x2 : Int32) (y : Int32 × XS) (hE : fX0_value z x1 x2 = some y) : xM l yX0_value (ws_ yX0_value cX0_value 3 (some .boolean)) rmX0_value E z [.ref (E.2.2.1 0), .int x1, .int x2] (some (.int y.1)) y.2 := by
  refine x_met (own := RX0) (by decide) rfl (Nat.le_of_ble_eq_true rfl) (fun p e s m args below meth c hC => ?_)
  intro H locs cells slots ls hP hS hB hl
  have hx := hC.1
  have hb := hC.2.1
  have hown := hC.2.2.2.2.2.1
  have hts := hC.2.2.2.2.2.2.1
  have hl : lv_has ls 3 [(0, .ref (E.2.2.1 0)), (1, .int x1), (2, .int x2)] := hl
  unfold fX0_value at hE
  refine lv_iload_n hx hb dX0_value_0 rfl (lv_at hl 1 rfl) ?_
  refine lv_iconst (v := 0) hx hb dX0_value_1 (by decide) ?_
  refine lv_bipush (v := 12) hx hb dX0_value_2 (by decide) ?_
  obtain ⟨r_1, h_1, hE⟩ := ob hE
  refine s_calli [.int x1, .int (0 : Int32), .int (12 : Int32)] hC.sC hl.1 (wX0_in x1 (0 : Int32) (12 : Int32) r_1 h_1) (va_cwS 3 hts lkX0_58 rfl rfl rfl cdX0_in ⟨Nat.le_of_ble_eq_true rfl, Nat.le_of_ble_eq_true rfl⟩) rfl rfl (lv_room (Nat.le_of_ble_eq_true rfl)) (hB0 hB) dX0_value_4 ?_
  refine lv_if_eq (tgt := 20) hx hb dX0_value_7 (by decide) (fun c_2 => ?_) (fun c_2 => ?_)
  · have hE := ip c_2 hE
    refine lv_iconst (v := 0) hx hb dX0_value_20 (by decide) ?_
    obtain rfl := Option.some.inj hE
    exact x_zret (v := (0 : Int32)) hC hP hS hB (by decide) dX0_value_21
  · have hE := iq c_2 hE
    refine lv_iload_n hx hb dX0_value_10 rfl (lv_at hl 2 rfl) ?_
    refine lv_iconst (v := 0) hx hb dX0_value_11 (by decide) ?_
    refine lv_bipush (v := 99) hx hb dX0_value_12 (by decide) ?_
    obtain ⟨r_3, h_3, hE⟩ := ob hE
    refine s_calli [.int x2, .int (0 : Int32), .int (99 : Int32)] hC.sC hl.1 (wX0_in x2 (0 : Int32) (99 : Int32) r_3 h_3) (va_cwS 3 hts lkX0_58 rfl rfl rfl cdX0_in ⟨Nat.le_of_ble_eq_true rfl, Nat.le_of_ble_eq_true rfl⟩) rfl rfl (lv_room (Nat.le_of_ble_eq_true rfl)) (hB0 hB) dX0_value_14 ?_
    refine lv_if_ne (tgt := 22) hx hb dX0_value_17 (by decide) (fun c_4 => ?_) (fun c_4 => ?_)
    · have hE := iq c_4 hE
      refine lv_aload_n hx hb dX0_value_22 rfl (lv_at hl 0 rfl) ?_
      refine gX_21 hC hP dX0_value_23 ?_
      refine gN_300_1 hC hP dX0_value_26 ?_
      refine lv_iload_n hx hb dX0_value_29 rfl (lv_at hl 1 rfl) ?_
      refine lv_iload_n hx hb dX0_value_30 rfl (lv_at hl 2 rfl) ?_
      obtain ⟨c_5, hE⟩ := og hE
      obtain ⟨z_5, ez_5, hE⟩ := on hE
      refine x_iast hC hP hS (⟨by decide, rfl, rfl⟩ : xint 12 13) c_5 ez_5 dX0_value_31 (fun H locs hP hS => ?_)
      refine lv_iconst (v := 1) hx hb dX0_value_32 (by decide) ?_
      obtain rfl := Option.some.inj hE
      exact x_zret (v := (1 : Int32)) hC hP hS hB (by decide) dX0_value_33
    · have hE := ip c_4 hE
      refine lv_iconst (v := 0) hx hb dX0_value_20 (by decide) ?_
      obtain rfl := Option.some.inj hE
      exact x_zret (v := (0 : Int32)) hC hP hS hB (by decide) dX0_value_21
noncomputable def fX0_stopsFor (z : XS) (x1 : Int32) : Option Int64 := if ib x1 13 then none else ((fX0_power 20 (10 : Int64) ((12 : Int32) - x1)).bind fun r_2 => some ((z.2.1 12 x1.toNatClampNeg).toInt64 * r_2))
set_option maxHeartbeats 1000000 in
theorem wX0_stopsFor {l : Launch} {E : XE} (z : XS) (x1 : Int32) (y : Int64) (hE : fX0_stopsFor z x1 = some y) : xM l yX0_stopsFor (ws_ yX0_stopsFor cX0_stopsFor 2 (some .long)) rmX0_stopsFor E z [.ref (E.2.2.1 0), .int x1] (some (.long y)) z := by
  refine x_met (own := RX0) (by decide) rfl (Nat.le_of_ble_eq_true rfl) (fun p e s m args below meth c hC => ?_)
  intro H locs cells slots ls hP hS hB hl
  have hx := hC.1
  have hb := hC.2.1
  have hown := hC.2.2.2.2.2.1
  have hts := hC.2.2.2.2.2.2.1
  have hl : lv_has ls 2 [(0, .ref (E.2.2.1 0)), (1, .int x1)] := hl
  unfold fX0_stopsFor at hE
  refine lv_aload_n hx hb dX0_stopsFor_0 rfl (lv_at hl 0 rfl) ?_
  refine gX_21 hC hP dX0_stopsFor_1 ?_
  refine gN_300_1 hC hP dX0_stopsFor_4 ?_
  refine lv_iload_n hx hb dX0_stopsFor_7 rfl (lv_at hl 1 rfl) ?_
  obtain ⟨c_1, hE⟩ := og hE
  refine x_iald hC hP (⟨by decide, rfl, rfl⟩ : xint 12 13) c_1 dX0_stopsFor_8 ?_
  refine lv_i2l hx hb dX0_stopsFor_9 rfl ?_
  refine lv_ldc2 (v := 10) hx hb hown (hts _ q1157) dX0_stopsFor_10 ?_
  refine lv_bipush (v := 12) hx hb dX0_stopsFor_13 (by decide) ?_
  refine lv_iload_n hx hb dX0_stopsFor_15 rfl (lv_at hl 1 rfl) ?_
  refine lv_isub hx hb dX0_stopsFor_16 ?_
  obtain ⟨r_2, h_2, hE⟩ := ob hE
  refine s_calll [.long (10 : Int64), .int ((12 : Int32) - x1)] hC.sC hl.1 (wX0_power 20 (10 : Int64) ((12 : Int32) - x1) r_2 h_2) (va_cwS 2 hts lkX0_281 rfl rfl rfl cdX0_power ⟨Nat.le_of_ble_eq_true rfl, Nat.le_of_ble_eq_true rfl⟩) rfl rfl (lv_room (Nat.le_of_ble_eq_true rfl)) (hB0 hB) dX0_stopsFor_17 ?_
  refine lv_lmul hx hb dX0_stopsFor_20 ?_
  obtain rfl := Option.some.inj hE
  exact x_lret hC hP hS hB dX0_stopsFor_21
noncomputable def fX0_onOf_1 (V : XV) (z : XS) (x1 : Int32) (x2 : Int32) : Option (Int64 × XS) := (fX0_oddsAt V z x1 x2).bind fun r_1 => (fX0_worthOf_0 V r_1.2 x1 (x2 + (1 : Int32))).bind fun r_2 => some ((((10 : Int32) - r_1.1).toInt64 * r_2), r_1.2)
set_option maxHeartbeats 1000000 in
theorem wX0_onOf_1 {l : Launch} {E : XE} (z : XS) (x1 : Int32) (x2 : Int32) (y : Int64 × XS) (hE : fX0_onOf_1 E.2.2.2.2.2 z x1 x2 = some y) : xM l yX0_onOf (ws_ yX0_onOf cX0_onOf 3 (some .long)) rmX0_onOf_1 E z [.ref (E.2.2.1 0), .int x1, .int x2] (some (.long y.1)) y.2 := by
  refine x_met (own := RX0) (by decide) rfl (Nat.le_of_ble_eq_true rfl) (fun p e s m args below meth c hC => ?_)
  intro H locs cells slots ls hP hS hB hl
  have hx := hC.1
  have hb := hC.2.1
  have hown := hC.2.2.2.2.2.1
  have hts := hC.2.2.2.2.2.2.1
  have hl : lv_has ls 3 [(0, .ref (E.2.2.1 0)), (1, .int x1), (2, .int x2)] := hl
  unfold fX0_onOf_1 at hE
  refine lv_bipush (v := 10) hx hb dX0_onOf_0 (by decide) ?_
  refine lv_aload_n hx hb dX0_onOf_2 rfl (lv_at hl 0 rfl) ?_
  refine lv_iload_n hx hb dX0_onOf_3 rfl (lv_at hl 1 rfl) ?_
  refine lv_iload_n hx hb dX0_onOf_4 rfl (lv_at hl 2 rfl) ?_
  obtain ⟨r_1, h_1, hE⟩ := ob hE
  refine x_callV (rc1 := _) (rs1 := _) [.int x1, .int x2] (E.2.2.1 0) hC hP hS hB hl.1 (wX0_oddsAt z x1 x2 r_1 h_1) (xC.c0 hC) (xw_get E _ (k := 0) (by decide)) (cwV 2 hts lkX0_275 rfl rfl rfl cdX0_oddsAt ⟨Nat.le_of_ble_eq_true rfl, Nat.le_of_ble_eq_true rfl⟩) rfl rfl (lv_room (Nat.le_of_ble_eq_true rfl)) ⟨Nat.le_of_eq (Nat.zero_add _), Nat.le_of_eq (Nat.zero_add _)⟩ dX0_onOf_5 (fun H locs cells slots hP hS hB => ?_)
  show W p l e _ s m args below meth c H locs cells slots _ (F0 m _ ls (.int r_1.1 :: .int (10 : Int32) :: []))
  refine lv_isub hx hb dX0_onOf_8 ?_
  refine lv_i2l hx hb dX0_onOf_9 rfl ?_
  refine lv_aload_n hx hb dX0_onOf_10 rfl (lv_at hl 0 rfl) ?_
  refine lv_iload_n hx hb dX0_onOf_11 rfl (lv_at hl 1 rfl) ?_
  refine lv_iload_n hx hb dX0_onOf_12 rfl (lv_at hl 2 rfl) ?_
  refine lv_iconst (v := 1) hx hb dX0_onOf_13 (by decide) ?_
  refine lv_iadd hx hb dX0_onOf_14 ?_
  obtain ⟨r_2, h_2, hE⟩ := ob hE
  refine x_callV (rc1 := _) (rs1 := _) [.int x1, .int (x2 + (1 : Int32))] (E.2.2.1 0) hC hP hS hB hl.1 (wX0_worthOf_0 r_1.2 x1 (x2 + (1 : Int32)) r_2 h_2) (xC.c0 hC) (xw_get E _ (k := 0) (by decide)) (cwV 2 hts lkX0_303 rfl rfl rfl cdX0_worthOf ⟨Nat.le_of_ble_eq_true rfl, Nat.le_of_ble_eq_true rfl⟩) rfl rfl (lv_room (Nat.le_of_ble_eq_true rfl)) ⟨Nat.le_of_eq (Nat.zero_add _), Nat.le_of_eq (Nat.zero_add _)⟩ dX0_onOf_15 (fun H locs cells slots hP hS hB => ?_)
  show W p l e _ s m args below meth c H locs cells slots _ (F0 m _ ls (.long r_2 :: .long ((10 : Int32) - r_1.1).toInt64 :: []))
  refine lv_lmul hx hb dX0_onOf_18 ?_
  obtain rfl := Option.some.inj hE
  exact x_lret hC hP hS hB dX0_onOf_19
noncomputable def fX0_worthOf_1_J14 (V : XV) (z : XS) (x2 : Int32) : Option (Int64 × XS) := (fX0_stopsFor z x2).bind fun r_2 => some (r_2, z)
set_option maxHeartbeats 1000000 in
theorem wX0_worthOf_1_J14 {p : Program} {l : Launch} {e : Env} {s : State} {m : MethodId} {args : Array Value} {below : List Frame} {meth : Method} {c : Code} {E : XE} (z : XS) (x2 : Int32) (hC : xC E RX0 cX0_worthOf 3 (some .long) p s m args meth c) (y : Int64 × XS) (hE : fX0_worthOf_1_J14 E.2.2.2.2.2 z x2 = some y) : xW p l e rmX0_worthOf_1 s m args below meth c E 3 (xQ E rmX0_worthOf_1 below args s (some (.long y.1)) y.2) 0 0 14 [(0, .ref (E.2.2.1 0)), (2, .int x2)] [] z := by
  intro H locs cells slots ls hP hS hB hl
  have hx := hC.1
  have hb := hC.2.1
  have hown := hC.2.2.2.2.2.1
  have hts := hC.2.2.2.2.2.2.1
  unfold fX0_worthOf_1_J14 at hE
  refine lv_aload_n hx hb dX0_worthOf_14 rfl (lv_at hl 0 rfl) ?_
  refine lv_iload_n hx hb dX0_worthOf_15 rfl (lv_at hl 1 rfl) ?_
  obtain ⟨r_2, h_2, hE⟩ := ob hE
  refine x_callV (rc1 := _) (rs1 := _) [.int x2] (E.2.2.1 0) hC hP hS hB hl.1 (wX0_stopsFor z x2 r_2 h_2) (xC.c0 hC) (xw_get E _ (k := 0) (by decide)) (cwV 1 hts lkX0_306 rfl rfl rfl cdX0_stopsFor ⟨Nat.le_of_ble_eq_true rfl, Nat.le_of_ble_eq_true rfl⟩) rfl rfl (lv_room (Nat.le_of_ble_eq_true rfl)) ⟨Nat.le_of_eq (Nat.zero_add _), Nat.le_of_eq (Nat.zero_add _)⟩ dX0_worthOf_16 (fun H locs cells slots hP hS hB => ?_)
  show W p l e _ s m args below meth c H locs cells slots _ (F0 m _ ls (.long r_2 :: []))
  refine lv_goto (tgt := 36) hx hb dX0_worthOf_19 (by decide) ?_
  obtain rfl := Option.some.inj hE
  exact x_lret hC hP hS hB dX0_worthOf_36
noncomputable def fX0_worthOf_1 (V : XV) (z : XS) (x1 : Int32) (x2 : Int32) : Option (Int64 × XS) := if x2 = (12 : Int32) then ((fX0_worthOf_1_J14 V z x2)) else (if x2 = (z.1 9) then ((fX0_worthOf_1_J14 V z x2)) else ((fX0_stopsFor z x2).bind fun r_4 => (fX0_onOf_1 V z x1 x2).bind fun r_5 => some ((if r_5.1 < r_4 then r_4 else r_5.1), r_5.2)))
set_option maxHeartbeats 1000000 in
theorem wX0_worthOf_1 {l : Launch} {E : XE} (z : XS) (x1 : Int32) (x2 : Int32) (y : Int64 × XS) (hE : fX0_worthOf_1 E.2.2.2.2.2 z x1 x2 = some y) : xM l yX0_worthOf (ws_ yX0_worthOf cX0_worthOf 3 (some .long)) rmX0_worthOf_1 E z [.ref (E.2.2.1 0), .int x1, .int x2] (some (.long y.1)) y.2 := by
  refine x_met (own := RX0) (by decide) rfl (Nat.le_of_ble_eq_true rfl) (fun p e s m args below meth c hC => ?_)
  intro H locs cells slots ls hP hS hB hl
  have hx := hC.1
  have hb := hC.2.1
  have hown := hC.2.2.2.2.2.1
  have hts := hC.2.2.2.2.2.2.1
  have hl : lv_has ls 3 [(0, .ref (E.2.2.1 0)), (1, .int x1), (2, .int x2)] := hl
  unfold fX0_worthOf_1 at hE
  refine lv_iload_n hx hb dX0_worthOf_0 rfl (lv_at hl 2 rfl) ?_
  refine lv_bipush (v := 12) hx hb dX0_worthOf_1 (by decide) ?_
  refine lv_icmp_eq (tgt := 14) hx hb dX0_worthOf_3 (by decide) (fun c_1 => ?_) (fun c_1 => ?_)
  · have hE := ip c_1 hE
    exact wX0_worthOf_1_J14 z x2 hC y hE H locs cells slots ls hP hS hB (lv_sub hl [0, 2] rfl)
  · have hE := iq c_1 hE
    refine lv_iload_n hx hb dX0_worthOf_6 rfl (lv_at hl 2 rfl) ?_
    refine lv_aload_n hx hb dX0_worthOf_7 rfl (lv_at hl 0 rfl) ?_
    refine gX_272 hC hP dX0_worthOf_8 ?_
    refine lv_icmp_ne (tgt := 22) hx hb dX0_worthOf_11 (by decide) (fun c_3 => ?_) (fun c_3 => ?_)
    · have hE := iq c_3 hE
      refine lv_aload_n hx hb dX0_worthOf_22 rfl (lv_at hl 0 rfl) ?_
      refine lv_iload_n hx hb dX0_worthOf_23 rfl (lv_at hl 2 rfl) ?_
      obtain ⟨r_4, h_4, hE⟩ := ob hE
      refine x_callV (rc1 := _) (rs1 := _) [.int x2] (E.2.2.1 0) hC hP hS hB hl.1 (wX0_stopsFor z x2 r_4 h_4) (xC.c0 hC) (xw_get E _ (k := 0) (by decide)) (cwV 1 hts lkX0_306 rfl rfl rfl cdX0_stopsFor ⟨Nat.le_of_ble_eq_true rfl, Nat.le_of_ble_eq_true rfl⟩) rfl rfl (lv_room (Nat.le_of_ble_eq_true rfl)) ⟨Nat.le_of_eq (Nat.zero_add _), Nat.le_of_eq (Nat.zero_add _)⟩ dX0_worthOf_24 (fun H locs cells slots hP hS hB => ?_)
      show W p l e _ s m args below meth c H locs cells slots _ (F0 m _ ls (.long r_4 :: []))
      refine lv_aload_n hx hb dX0_worthOf_27 rfl (lv_at hl 0 rfl) ?_
      refine lv_iload_n hx hb dX0_worthOf_28 rfl (lv_at hl 1 rfl) ?_
      refine lv_iload_n hx hb dX0_worthOf_29 rfl (lv_at hl 2 rfl) ?_
      obtain ⟨r_5, h_5, hE⟩ := ob hE
      refine x_callV (rc1 := _) (rs1 := _) [.int x1, .int x2] (E.2.2.1 0) hC hP hS hB hl.1 (wX0_onOf_1 z x1 x2 r_5 h_5) (xC.c0 hC) (xw_get E _ (k := 0) (by decide)) (cwV 2 hts lkX0_310 rfl rfl rfl cdX0_onOf ⟨Nat.le_of_ble_eq_true rfl, Nat.le_of_ble_eq_true rfl⟩) rfl rfl (lv_room (Nat.le_of_ble_eq_true rfl)) ⟨Nat.le_of_eq (Nat.zero_add _), Nat.le_of_eq (Nat.zero_add _)⟩ dX0_worthOf_30 (fun H locs cells slots hP hS hB => ?_)
      show W p l e _ s m args below meth c H locs cells slots _ (F0 m _ ls (.long r_5.1 :: .long r_4 :: []))
      refine va_mmax_long hx hb (hC.2.2.2.2.1.trans hl.1.symm) hown (hts _ q1012) (hts _ q1006) (hts _ q135) (hts _ q1007) (Nat.le_of_ble_eq_true rfl) (Nat.le_of_ble_eq_true rfl) (Nat.le_trans (Nat.le_add_right _ _) hB.1) (Nat.le_trans (Nat.le_add_right _ _) hB.2) dX0_worthOf_33 ?_
      obtain rfl := Option.some.inj hE
      exact x_lret hC hP hS hB dX0_worthOf_36
    · have hE := ip c_3 hE
      exact wX0_worthOf_1_J14 z x2 hC y hE H locs cells slots ls hP hS hB (lv_sub hl [0, 2] rfl)
noncomputable def fX0_onOf_2 (V : XV) (z : XS) (x1 : Int32) (x2 : Int32) : Option (Int64 × XS) := (fX0_oddsAt V z x1 x2).bind fun r_1 => (fX0_worthOf_1 V r_1.2 x1 (x2 + (1 : Int32))).bind fun r_2 => some ((((10 : Int32) - r_1.1).toInt64 * r_2.1), r_2.2)
set_option maxHeartbeats 1000000 in
theorem wX0_onOf_2 {l : Launch} {E : XE} (z : XS) (x1 : Int32) (x2 : Int32) (y : Int64 × XS) (hE : fX0_onOf_2 E.2.2.2.2.2 z x1 x2 = some y) : xM l yX0_onOf (ws_ yX0_onOf cX0_onOf 3 (some .long)) rmX0_onOf_2 E z [.ref (E.2.2.1 0), .int x1, .int x2] (some (.long y.1)) y.2 := by
  refine x_met (own := RX0) (by decide) rfl (Nat.le_of_ble_eq_true rfl) (fun p e s m args below meth c hC => ?_)
  intro H locs cells slots ls hP hS hB hl
  have hx := hC.1
  have hb := hC.2.1
  have hown := hC.2.2.2.2.2.1
  have hts := hC.2.2.2.2.2.2.1
  have hl : lv_has ls 3 [(0, .ref (E.2.2.1 0)), (1, .int x1), (2, .int x2)] := hl
  unfold fX0_onOf_2 at hE
  refine lv_bipush (v := 10) hx hb dX0_onOf_0 (by decide) ?_
  refine lv_aload_n hx hb dX0_onOf_2 rfl (lv_at hl 0 rfl) ?_
  refine lv_iload_n hx hb dX0_onOf_3 rfl (lv_at hl 1 rfl) ?_
  refine lv_iload_n hx hb dX0_onOf_4 rfl (lv_at hl 2 rfl) ?_
  obtain ⟨r_1, h_1, hE⟩ := ob hE
  refine x_callV (rc1 := _) (rs1 := _) [.int x1, .int x2] (E.2.2.1 0) hC hP hS hB hl.1 (wX0_oddsAt z x1 x2 r_1 h_1) (xC.c0 hC) (xw_get E _ (k := 0) (by decide)) (cwV 2 hts lkX0_275 rfl rfl rfl cdX0_oddsAt ⟨Nat.le_of_ble_eq_true rfl, Nat.le_of_ble_eq_true rfl⟩) rfl rfl (lv_room (Nat.le_of_ble_eq_true rfl)) ⟨Nat.le_of_eq (Nat.zero_add _), Nat.le_of_eq (Nat.zero_add _)⟩ dX0_onOf_5 (fun H locs cells slots hP hS hB => ?_)
  show W p l e _ s m args below meth c H locs cells slots _ (F0 m _ ls (.int r_1.1 :: .int (10 : Int32) :: []))
  refine lv_isub hx hb dX0_onOf_8 ?_
  refine lv_i2l hx hb dX0_onOf_9 rfl ?_
  refine lv_aload_n hx hb dX0_onOf_10 rfl (lv_at hl 0 rfl) ?_
  refine lv_iload_n hx hb dX0_onOf_11 rfl (lv_at hl 1 rfl) ?_
  refine lv_iload_n hx hb dX0_onOf_12 rfl (lv_at hl 2 rfl) ?_
  refine lv_iconst (v := 1) hx hb dX0_onOf_13 (by decide) ?_
  refine lv_iadd hx hb dX0_onOf_14 ?_
  obtain ⟨r_2, h_2, hE⟩ := ob hE
  refine x_callV (rc1 := _) (rs1 := _) [.int x1, .int (x2 + (1 : Int32))] (E.2.2.1 0) hC hP hS hB hl.1 (wX0_worthOf_1 r_1.2 x1 (x2 + (1 : Int32)) r_2 h_2) (xC.c0 hC) (xw_get E _ (k := 0) (by decide)) (cwV 2 hts lkX0_303 rfl rfl rfl cdX0_worthOf ⟨Nat.le_of_ble_eq_true rfl, Nat.le_of_ble_eq_true rfl⟩) rfl rfl (lv_room (Nat.le_of_ble_eq_true rfl)) ⟨Nat.le_of_eq (Nat.zero_add _), Nat.le_of_eq (Nat.zero_add _)⟩ dX0_onOf_15 (fun H locs cells slots hP hS hB => ?_)
  show W p l e _ s m args below meth c H locs cells slots _ (F0 m _ ls (.long r_2.1 :: .long ((10 : Int32) - r_1.1).toInt64 :: []))
  refine lv_lmul hx hb dX0_onOf_18 ?_
  obtain rfl := Option.some.inj hE
  exact x_lret hC hP hS hB dX0_onOf_19
noncomputable def fX0_worthOf_2_J14 (V : XV) (z : XS) (x2 : Int32) : Option (Int64 × XS) := (fX0_stopsFor z x2).bind fun r_2 => some (r_2, z)
set_option maxHeartbeats 1000000 in
theorem wX0_worthOf_2_J14 {p : Program} {l : Launch} {e : Env} {s : State} {m : MethodId} {args : Array Value} {below : List Frame} {meth : Method} {c : Code} {E : XE} (z : XS) (x2 : Int32) (hC : xC E RX0 cX0_worthOf 3 (some .long) p s m args meth c) (y : Int64 × XS) (hE : fX0_worthOf_2_J14 E.2.2.2.2.2 z x2 = some y) : xW p l e rmX0_worthOf_2 s m args below meth c E 3 (xQ E rmX0_worthOf_2 below args s (some (.long y.1)) y.2) 0 0 14 [(0, .ref (E.2.2.1 0)), (2, .int x2)] [] z := by
  intro H locs cells slots ls hP hS hB hl
  have hx := hC.1
  have hb := hC.2.1
  have hown := hC.2.2.2.2.2.1
  have hts := hC.2.2.2.2.2.2.1
  unfold fX0_worthOf_2_J14 at hE
  refine lv_aload_n hx hb dX0_worthOf_14 rfl (lv_at hl 0 rfl) ?_
  refine lv_iload_n hx hb dX0_worthOf_15 rfl (lv_at hl 1 rfl) ?_
  obtain ⟨r_2, h_2, hE⟩ := ob hE
  refine x_callV (rc1 := _) (rs1 := _) [.int x2] (E.2.2.1 0) hC hP hS hB hl.1 (wX0_stopsFor z x2 r_2 h_2) (xC.c0 hC) (xw_get E _ (k := 0) (by decide)) (cwV 1 hts lkX0_306 rfl rfl rfl cdX0_stopsFor ⟨Nat.le_of_ble_eq_true rfl, Nat.le_of_ble_eq_true rfl⟩) rfl rfl (lv_room (Nat.le_of_ble_eq_true rfl)) ⟨Nat.le_of_eq (Nat.zero_add _), Nat.le_of_eq (Nat.zero_add _)⟩ dX0_worthOf_16 (fun H locs cells slots hP hS hB => ?_)
  show W p l e _ s m args below meth c H locs cells slots _ (F0 m _ ls (.long r_2 :: []))
  refine lv_goto (tgt := 36) hx hb dX0_worthOf_19 (by decide) ?_
  obtain rfl := Option.some.inj hE
  exact x_lret hC hP hS hB dX0_worthOf_36
noncomputable def fX0_worthOf_2 (V : XV) (z : XS) (x1 : Int32) (x2 : Int32) : Option (Int64 × XS) := if x2 = (12 : Int32) then ((fX0_worthOf_2_J14 V z x2)) else (if x2 = (z.1 9) then ((fX0_worthOf_2_J14 V z x2)) else ((fX0_stopsFor z x2).bind fun r_4 => (fX0_onOf_2 V z x1 x2).bind fun r_5 => some ((if r_5.1 < r_4 then r_4 else r_5.1), r_5.2)))
set_option maxHeartbeats 1000000 in
theorem wX0_worthOf_2 {l : Launch} {E : XE} (z : XS) (x1 : Int32) (x2 : Int32) (y : Int64 × XS) (hE : fX0_worthOf_2 E.2.2.2.2.2 z x1 x2 = some y) : xM l yX0_worthOf (ws_ yX0_worthOf cX0_worthOf 3 (some .long)) rmX0_worthOf_2 E z [.ref (E.2.2.1 0), .int x1, .int x2] (some (.long y.1)) y.2 := by
  refine x_met (own := RX0) (by decide) rfl (Nat.le_of_ble_eq_true rfl) (fun p e s m args below meth c hC => ?_)
  intro H locs cells slots ls hP hS hB hl
  have hx := hC.1
  have hb := hC.2.1
  have hown := hC.2.2.2.2.2.1
  have hts := hC.2.2.2.2.2.2.1
  have hl : lv_has ls 3 [(0, .ref (E.2.2.1 0)), (1, .int x1), (2, .int x2)] := hl
  unfold fX0_worthOf_2 at hE
  refine lv_iload_n hx hb dX0_worthOf_0 rfl (lv_at hl 2 rfl) ?_
  refine lv_bipush (v := 12) hx hb dX0_worthOf_1 (by decide) ?_
  refine lv_icmp_eq (tgt := 14) hx hb dX0_worthOf_3 (by decide) (fun c_1 => ?_) (fun c_1 => ?_)
  · have hE := ip c_1 hE
    exact wX0_worthOf_2_J14 z x2 hC y hE H locs cells slots ls hP hS hB (lv_sub hl [0, 2] rfl)
  · have hE := iq c_1 hE
    refine lv_iload_n hx hb dX0_worthOf_6 rfl (lv_at hl 2 rfl) ?_
    refine lv_aload_n hx hb dX0_worthOf_7 rfl (lv_at hl 0 rfl) ?_
    refine gX_272 hC hP dX0_worthOf_8 ?_
    refine lv_icmp_ne (tgt := 22) hx hb dX0_worthOf_11 (by decide) (fun c_3 => ?_) (fun c_3 => ?_)
    · have hE := iq c_3 hE
      refine lv_aload_n hx hb dX0_worthOf_22 rfl (lv_at hl 0 rfl) ?_
      refine lv_iload_n hx hb dX0_worthOf_23 rfl (lv_at hl 2 rfl) ?_
      obtain ⟨r_4, h_4, hE⟩ := ob hE
      refine x_callV (rc1 := _) (rs1 := _) [.int x2] (E.2.2.1 0) hC hP hS hB hl.1 (wX0_stopsFor z x2 r_4 h_4) (xC.c0 hC) (xw_get E _ (k := 0) (by decide)) (cwV 1 hts lkX0_306 rfl rfl rfl cdX0_stopsFor ⟨Nat.le_of_ble_eq_true rfl, Nat.le_of_ble_eq_true rfl⟩) rfl rfl (lv_room (Nat.le_of_ble_eq_true rfl)) ⟨Nat.le_of_eq (Nat.zero_add _), Nat.le_of_eq (Nat.zero_add _)⟩ dX0_worthOf_24 (fun H locs cells slots hP hS hB => ?_)
      show W p l e _ s m args below meth c H locs cells slots _ (F0 m _ ls (.long r_4 :: []))
      refine lv_aload_n hx hb dX0_worthOf_27 rfl (lv_at hl 0 rfl) ?_
      refine lv_iload_n hx hb dX0_worthOf_28 rfl (lv_at hl 1 rfl) ?_
      refine lv_iload_n hx hb dX0_worthOf_29 rfl (lv_at hl 2 rfl) ?_
      obtain ⟨r_5, h_5, hE⟩ := ob hE
      refine x_callV (rc1 := _) (rs1 := _) [.int x1, .int x2] (E.2.2.1 0) hC hP hS hB hl.1 (wX0_onOf_2 z x1 x2 r_5 h_5) (xC.c0 hC) (xw_get E _ (k := 0) (by decide)) (cwV 2 hts lkX0_310 rfl rfl rfl cdX0_onOf ⟨Nat.le_of_ble_eq_true rfl, Nat.le_of_ble_eq_true rfl⟩) rfl rfl (lv_room (Nat.le_of_ble_eq_true rfl)) ⟨Nat.le_of_eq (Nat.zero_add _), Nat.le_of_eq (Nat.zero_add _)⟩ dX0_worthOf_30 (fun H locs cells slots hP hS hB => ?_)
      show W p l e _ s m args below meth c H locs cells slots _ (F0 m _ ls (.long r_5.1 :: .long r_4 :: []))
      refine va_mmax_long hx hb (hC.2.2.2.2.1.trans hl.1.symm) hown (hts _ q1012) (hts _ q1006) (hts _ q135) (hts _ q1007) (Nat.le_of_ble_eq_true rfl) (Nat.le_of_ble_eq_true rfl) (Nat.le_trans (Nat.le_add_right _ _) hB.1) (Nat.le_trans (Nat.le_add_right _ _) hB.2) dX0_worthOf_33 ?_
      obtain rfl := Option.some.inj hE
      exact x_lret hC hP hS hB dX0_worthOf_36
    · have hE := ip c_3 hE
      exact wX0_worthOf_2_J14 z x2 hC y hE H locs cells slots ls hP hS hB (lv_sub hl [0, 2] rfl)
noncomputable def fX0_onOf_3 (V : XV) (z : XS) (x1 : Int32) (x2 : Int32) : Option (Int64 × XS) := (fX0_oddsAt V z x1 x2).bind fun r_1 => (fX0_worthOf_2 V r_1.2 x1 (x2 + (1 : Int32))).bind fun r_2 => some ((((10 : Int32) - r_1.1).toInt64 * r_2.1), r_2.2)
set_option maxHeartbeats 1000000 in
theorem wX0_onOf_3 {l : Launch} {E : XE} (z : XS) (x1 : Int32) (x2 : Int32) (y : Int64 × XS) (hE : fX0_onOf_3 E.2.2.2.2.2 z x1 x2 = some y) : xM l yX0_onOf (ws_ yX0_onOf cX0_onOf 3 (some .long)) rmX0_onOf_3 E z [.ref (E.2.2.1 0), .int x1, .int x2] (some (.long y.1)) y.2 := by
  refine x_met (own := RX0) (by decide) rfl (Nat.le_of_ble_eq_true rfl) (fun p e s m args below meth c hC => ?_)
  intro H locs cells slots ls hP hS hB hl
  have hx := hC.1
  have hb := hC.2.1
  have hown := hC.2.2.2.2.2.1
  have hts := hC.2.2.2.2.2.2.1
  have hl : lv_has ls 3 [(0, .ref (E.2.2.1 0)), (1, .int x1), (2, .int x2)] := hl
  unfold fX0_onOf_3 at hE
  refine lv_bipush (v := 10) hx hb dX0_onOf_0 (by decide) ?_
  refine lv_aload_n hx hb dX0_onOf_2 rfl (lv_at hl 0 rfl) ?_
  refine lv_iload_n hx hb dX0_onOf_3 rfl (lv_at hl 1 rfl) ?_
  refine lv_iload_n hx hb dX0_onOf_4 rfl (lv_at hl 2 rfl) ?_
  obtain ⟨r_1, h_1, hE⟩ := ob hE
  refine x_callV (rc1 := _) (rs1 := _) [.int x1, .int x2] (E.2.2.1 0) hC hP hS hB hl.1 (wX0_oddsAt z x1 x2 r_1 h_1) (xC.c0 hC) (xw_get E _ (k := 0) (by decide)) (cwV 2 hts lkX0_275 rfl rfl rfl cdX0_oddsAt ⟨Nat.le_of_ble_eq_true rfl, Nat.le_of_ble_eq_true rfl⟩) rfl rfl (lv_room (Nat.le_of_ble_eq_true rfl)) ⟨Nat.le_of_eq (Nat.zero_add _), Nat.le_of_eq (Nat.zero_add _)⟩ dX0_onOf_5 (fun H locs cells slots hP hS hB => ?_)
  show W p l e _ s m args below meth c H locs cells slots _ (F0 m _ ls (.int r_1.1 :: .int (10 : Int32) :: []))
  refine lv_isub hx hb dX0_onOf_8 ?_
  refine lv_i2l hx hb dX0_onOf_9 rfl ?_
  refine lv_aload_n hx hb dX0_onOf_10 rfl (lv_at hl 0 rfl) ?_
  refine lv_iload_n hx hb dX0_onOf_11 rfl (lv_at hl 1 rfl) ?_
  refine lv_iload_n hx hb dX0_onOf_12 rfl (lv_at hl 2 rfl) ?_
  refine lv_iconst (v := 1) hx hb dX0_onOf_13 (by decide) ?_
  refine lv_iadd hx hb dX0_onOf_14 ?_
  obtain ⟨r_2, h_2, hE⟩ := ob hE
  refine x_callV (rc1 := _) (rs1 := _) [.int x1, .int (x2 + (1 : Int32))] (E.2.2.1 0) hC hP hS hB hl.1 (wX0_worthOf_2 r_1.2 x1 (x2 + (1 : Int32)) r_2 h_2) (xC.c0 hC) (xw_get E _ (k := 0) (by decide)) (cwV 2 hts lkX0_303 rfl rfl rfl cdX0_worthOf ⟨Nat.le_of_ble_eq_true rfl, Nat.le_of_ble_eq_true rfl⟩) rfl rfl (lv_room (Nat.le_of_ble_eq_true rfl)) ⟨Nat.le_of_eq (Nat.zero_add _), Nat.le_of_eq (Nat.zero_add _)⟩ dX0_onOf_15 (fun H locs cells slots hP hS hB => ?_)
  show W p l e _ s m args below meth c H locs cells slots _ (F0 m _ ls (.long r_2.1 :: .long ((10 : Int32) - r_1.1).toInt64 :: []))
  refine lv_lmul hx hb dX0_onOf_18 ?_
  obtain rfl := Option.some.inj hE
  exact x_lret hC hP hS hB dX0_onOf_19
noncomputable def fX0_worthOf_3_J14 (V : XV) (z : XS) (x2 : Int32) : Option (Int64 × XS) := (fX0_stopsFor z x2).bind fun r_2 => some (r_2, z)
set_option maxHeartbeats 1000000 in
theorem wX0_worthOf_3_J14 {p : Program} {l : Launch} {e : Env} {s : State} {m : MethodId} {args : Array Value} {below : List Frame} {meth : Method} {c : Code} {E : XE} (z : XS) (x2 : Int32) (hC : xC E RX0 cX0_worthOf 3 (some .long) p s m args meth c) (y : Int64 × XS) (hE : fX0_worthOf_3_J14 E.2.2.2.2.2 z x2 = some y) : xW p l e rmX0_worthOf_3 s m args below meth c E 3 (xQ E rmX0_worthOf_3 below args s (some (.long y.1)) y.2) 0 0 14 [(0, .ref (E.2.2.1 0)), (2, .int x2)] [] z := by
  intro H locs cells slots ls hP hS hB hl
  have hx := hC.1
  have hb := hC.2.1
  have hown := hC.2.2.2.2.2.1
  have hts := hC.2.2.2.2.2.2.1
  unfold fX0_worthOf_3_J14 at hE
  refine lv_aload_n hx hb dX0_worthOf_14 rfl (lv_at hl 0 rfl) ?_
  refine lv_iload_n hx hb dX0_worthOf_15 rfl (lv_at hl 1 rfl) ?_
  obtain ⟨r_2, h_2, hE⟩ := ob hE
  refine x_callV (rc1 := _) (rs1 := _) [.int x2] (E.2.2.1 0) hC hP hS hB hl.1 (wX0_stopsFor z x2 r_2 h_2) (xC.c0 hC) (xw_get E _ (k := 0) (by decide)) (cwV 1 hts lkX0_306 rfl rfl rfl cdX0_stopsFor ⟨Nat.le_of_ble_eq_true rfl, Nat.le_of_ble_eq_true rfl⟩) rfl rfl (lv_room (Nat.le_of_ble_eq_true rfl)) ⟨Nat.le_of_eq (Nat.zero_add _), Nat.le_of_eq (Nat.zero_add _)⟩ dX0_worthOf_16 (fun H locs cells slots hP hS hB => ?_)
  show W p l e _ s m args below meth c H locs cells slots _ (F0 m _ ls (.long r_2 :: []))
  refine lv_goto (tgt := 36) hx hb dX0_worthOf_19 (by decide) ?_
  obtain rfl := Option.some.inj hE
  exact x_lret hC hP hS hB dX0_worthOf_36
noncomputable def fX0_worthOf_3 (V : XV) (z : XS) (x1 : Int32) (x2 : Int32) : Option (Int64 × XS) := if x2 = (12 : Int32) then ((fX0_worthOf_3_J14 V z x2)) else (if x2 = (z.1 9) then ((fX0_worthOf_3_J14 V z x2)) else ((fX0_stopsFor z x2).bind fun r_4 => (fX0_onOf_3 V z x1 x2).bind fun r_5 => some ((if r_5.1 < r_4 then r_4 else r_5.1), r_5.2)))
set_option maxHeartbeats 1000000 in
theorem wX0_worthOf_3 {l : Launch} {E : XE} (z : XS) (x1 : Int32) (x2 : Int32) (y : Int64 × XS) (hE : fX0_worthOf_3 E.2.2.2.2.2 z x1 x2 = some y) : xM l yX0_worthOf (ws_ yX0_worthOf cX0_worthOf 3 (some .long)) rmX0_worthOf_3 E z [.ref (E.2.2.1 0), .int x1, .int x2] (some (.long y.1)) y.2 := by
  refine x_met (own := RX0) (by decide) rfl (Nat.le_of_ble_eq_true rfl) (fun p e s m args below meth c hC => ?_)
  intro H locs cells slots ls hP hS hB hl
  have hx := hC.1
  have hb := hC.2.1
  have hown := hC.2.2.2.2.2.1
  have hts := hC.2.2.2.2.2.2.1
  have hl : lv_has ls 3 [(0, .ref (E.2.2.1 0)), (1, .int x1), (2, .int x2)] := hl
  unfold fX0_worthOf_3 at hE
  refine lv_iload_n hx hb dX0_worthOf_0 rfl (lv_at hl 2 rfl) ?_
  refine lv_bipush (v := 12) hx hb dX0_worthOf_1 (by decide) ?_
  refine lv_icmp_eq (tgt := 14) hx hb dX0_worthOf_3 (by decide) (fun c_1 => ?_) (fun c_1 => ?_)
  · have hE := ip c_1 hE
    exact wX0_worthOf_3_J14 z x2 hC y hE H locs cells slots ls hP hS hB (lv_sub hl [0, 2] rfl)
  · have hE := iq c_1 hE
    refine lv_iload_n hx hb dX0_worthOf_6 rfl (lv_at hl 2 rfl) ?_
    refine lv_aload_n hx hb dX0_worthOf_7 rfl (lv_at hl 0 rfl) ?_
    refine gX_272 hC hP dX0_worthOf_8 ?_
    refine lv_icmp_ne (tgt := 22) hx hb dX0_worthOf_11 (by decide) (fun c_3 => ?_) (fun c_3 => ?_)
    · have hE := iq c_3 hE
      refine lv_aload_n hx hb dX0_worthOf_22 rfl (lv_at hl 0 rfl) ?_
      refine lv_iload_n hx hb dX0_worthOf_23 rfl (lv_at hl 2 rfl) ?_
      obtain ⟨r_4, h_4, hE⟩ := ob hE
      refine x_callV (rc1 := _) (rs1 := _) [.int x2] (E.2.2.1 0) hC hP hS hB hl.1 (wX0_stopsFor z x2 r_4 h_4) (xC.c0 hC) (xw_get E _ (k := 0) (by decide)) (cwV 1 hts lkX0_306 rfl rfl rfl cdX0_stopsFor ⟨Nat.le_of_ble_eq_true rfl, Nat.le_of_ble_eq_true rfl⟩) rfl rfl (lv_room (Nat.le_of_ble_eq_true rfl)) ⟨Nat.le_of_eq (Nat.zero_add _), Nat.le_of_eq (Nat.zero_add _)⟩ dX0_worthOf_24 (fun H locs cells slots hP hS hB => ?_)
      show W p l e _ s m args below meth c H locs cells slots _ (F0 m _ ls (.long r_4 :: []))
      refine lv_aload_n hx hb dX0_worthOf_27 rfl (lv_at hl 0 rfl) ?_
      refine lv_iload_n hx hb dX0_worthOf_28 rfl (lv_at hl 1 rfl) ?_
      refine lv_iload_n hx hb dX0_worthOf_29 rfl (lv_at hl 2 rfl) ?_
      obtain ⟨r_5, h_5, hE⟩ := ob hE
      refine x_callV (rc1 := _) (rs1 := _) [.int x1, .int x2] (E.2.2.1 0) hC hP hS hB hl.1 (wX0_onOf_3 z x1 x2 r_5 h_5) (xC.c0 hC) (xw_get E _ (k := 0) (by decide)) (cwV 2 hts lkX0_310 rfl rfl rfl cdX0_onOf ⟨Nat.le_of_ble_eq_true rfl, Nat.le_of_ble_eq_true rfl⟩) rfl rfl (lv_room (Nat.le_of_ble_eq_true rfl)) ⟨Nat.le_of_eq (Nat.zero_add _), Nat.le_of_eq (Nat.zero_add _)⟩ dX0_worthOf_30 (fun H locs cells slots hP hS hB => ?_)
      show W p l e _ s m args below meth c H locs cells slots _ (F0 m _ ls (.long r_5.1 :: .long r_4 :: []))
      refine va_mmax_long hx hb (hC.2.2.2.2.1.trans hl.1.symm) hown (hts _ q1012) (hts _ q1006) (hts _ q135) (hts _ q1007) (Nat.le_of_ble_eq_true rfl) (Nat.le_of_ble_eq_true rfl) (Nat.le_trans (Nat.le_add_right _ _) hB.1) (Nat.le_trans (Nat.le_add_right _ _) hB.2) dX0_worthOf_33 ?_
      obtain rfl := Option.some.inj hE
      exact x_lret hC hP hS hB dX0_worthOf_36
    · have hE := ip c_3 hE
      exact wX0_worthOf_3_J14 z x2 hC y hE H locs cells slots ls hP hS hB (lv_sub hl [0, 2] rfl)
noncomputable def fX0_onOf_4 (V : XV) (z : XS) (x1 : Int32) (x2 : Int32) : Option (Int64 × XS) := (fX0_oddsAt V z x1 x2).bind fun r_1 => (fX0_worthOf_3 V r_1.2 x1 (x2 + (1 : Int32))).bind fun r_2 => some ((((10 : Int32) - r_1.1).toInt64 * r_2.1), r_2.2)
set_option maxHeartbeats 1000000 in
theorem wX0_onOf_4 {l : Launch} {E : XE} (z : XS) (x1 : Int32) (x2 : Int32) (y : Int64 × XS) (hE : fX0_onOf_4 E.2.2.2.2.2 z x1 x2 = some y) : xM l yX0_onOf (ws_ yX0_onOf cX0_onOf 3 (some .long)) rmX0_onOf_4 E z [.ref (E.2.2.1 0), .int x1, .int x2] (some (.long y.1)) y.2 := by
  refine x_met (own := RX0) (by decide) rfl (Nat.le_of_ble_eq_true rfl) (fun p e s m args below meth c hC => ?_)
  intro H locs cells slots ls hP hS hB hl
  have hx := hC.1
  have hb := hC.2.1
  have hown := hC.2.2.2.2.2.1
  have hts := hC.2.2.2.2.2.2.1
  have hl : lv_has ls 3 [(0, .ref (E.2.2.1 0)), (1, .int x1), (2, .int x2)] := hl
  unfold fX0_onOf_4 at hE
  refine lv_bipush (v := 10) hx hb dX0_onOf_0 (by decide) ?_
  refine lv_aload_n hx hb dX0_onOf_2 rfl (lv_at hl 0 rfl) ?_
  refine lv_iload_n hx hb dX0_onOf_3 rfl (lv_at hl 1 rfl) ?_
  refine lv_iload_n hx hb dX0_onOf_4 rfl (lv_at hl 2 rfl) ?_
  obtain ⟨r_1, h_1, hE⟩ := ob hE
  refine x_callV (rc1 := _) (rs1 := _) [.int x1, .int x2] (E.2.2.1 0) hC hP hS hB hl.1 (wX0_oddsAt z x1 x2 r_1 h_1) (xC.c0 hC) (xw_get E _ (k := 0) (by decide)) (cwV 2 hts lkX0_275 rfl rfl rfl cdX0_oddsAt ⟨Nat.le_of_ble_eq_true rfl, Nat.le_of_ble_eq_true rfl⟩) rfl rfl (lv_room (Nat.le_of_ble_eq_true rfl)) ⟨Nat.le_of_eq (Nat.zero_add _), Nat.le_of_eq (Nat.zero_add _)⟩ dX0_onOf_5 (fun H locs cells slots hP hS hB => ?_)
  show W p l e _ s m args below meth c H locs cells slots _ (F0 m _ ls (.int r_1.1 :: .int (10 : Int32) :: []))
  refine lv_isub hx hb dX0_onOf_8 ?_
  refine lv_i2l hx hb dX0_onOf_9 rfl ?_
  refine lv_aload_n hx hb dX0_onOf_10 rfl (lv_at hl 0 rfl) ?_
  refine lv_iload_n hx hb dX0_onOf_11 rfl (lv_at hl 1 rfl) ?_
  refine lv_iload_n hx hb dX0_onOf_12 rfl (lv_at hl 2 rfl) ?_
  refine lv_iconst (v := 1) hx hb dX0_onOf_13 (by decide) ?_
  refine lv_iadd hx hb dX0_onOf_14 ?_
  obtain ⟨r_2, h_2, hE⟩ := ob hE
  refine x_callV (rc1 := _) (rs1 := _) [.int x1, .int (x2 + (1 : Int32))] (E.2.2.1 0) hC hP hS hB hl.1 (wX0_worthOf_3 r_1.2 x1 (x2 + (1 : Int32)) r_2 h_2) (xC.c0 hC) (xw_get E _ (k := 0) (by decide)) (cwV 2 hts lkX0_303 rfl rfl rfl cdX0_worthOf ⟨Nat.le_of_ble_eq_true rfl, Nat.le_of_ble_eq_true rfl⟩) rfl rfl (lv_room (Nat.le_of_ble_eq_true rfl)) ⟨Nat.le_of_eq (Nat.zero_add _), Nat.le_of_eq (Nat.zero_add _)⟩ dX0_onOf_15 (fun H locs cells slots hP hS hB => ?_)
  show W p l e _ s m args below meth c H locs cells slots _ (F0 m _ ls (.long r_2.1 :: .long ((10 : Int32) - r_1.1).toInt64 :: []))
  refine lv_lmul hx hb dX0_onOf_18 ?_
  obtain rfl := Option.some.inj hE
  exact x_lret hC hP hS hB dX0_onOf_19
noncomputable def fX0_worthOf_4_J14 (V : XV) (z : XS) (x2 : Int32) : Option (Int64 × XS) := (fX0_stopsFor z x2).bind fun r_2 => some (r_2, z)
set_option maxHeartbeats 1000000 in
theorem wX0_worthOf_4_J14 {p : Program} {l : Launch} {e : Env} {s : State} {m : MethodId} {args : Array Value} {below : List Frame} {meth : Method} {c : Code} {E : XE} (z : XS) (x2 : Int32) (hC : xC E RX0 cX0_worthOf 3 (some .long) p s m args meth c) (y : Int64 × XS) (hE : fX0_worthOf_4_J14 E.2.2.2.2.2 z x2 = some y) : xW p l e rmX0_worthOf_4 s m args below meth c E 3 (xQ E rmX0_worthOf_4 below args s (some (.long y.1)) y.2) 0 0 14 [(0, .ref (E.2.2.1 0)), (2, .int x2)] [] z := by
  intro H locs cells slots ls hP hS hB hl
  have hx := hC.1
  have hb := hC.2.1
  have hown := hC.2.2.2.2.2.1
  have hts := hC.2.2.2.2.2.2.1
  unfold fX0_worthOf_4_J14 at hE
  refine lv_aload_n hx hb dX0_worthOf_14 rfl (lv_at hl 0 rfl) ?_
  refine lv_iload_n hx hb dX0_worthOf_15 rfl (lv_at hl 1 rfl) ?_
  obtain ⟨r_2, h_2, hE⟩ := ob hE
  refine x_callV (rc1 := _) (rs1 := _) [.int x2] (E.2.2.1 0) hC hP hS hB hl.1 (wX0_stopsFor z x2 r_2 h_2) (xC.c0 hC) (xw_get E _ (k := 0) (by decide)) (cwV 1 hts lkX0_306 rfl rfl rfl cdX0_stopsFor ⟨Nat.le_of_ble_eq_true rfl, Nat.le_of_ble_eq_true rfl⟩) rfl rfl (lv_room (Nat.le_of_ble_eq_true rfl)) ⟨Nat.le_of_eq (Nat.zero_add _), Nat.le_of_eq (Nat.zero_add _)⟩ dX0_worthOf_16 (fun H locs cells slots hP hS hB => ?_)
  show W p l e _ s m args below meth c H locs cells slots _ (F0 m _ ls (.long r_2 :: []))
  refine lv_goto (tgt := 36) hx hb dX0_worthOf_19 (by decide) ?_
  obtain rfl := Option.some.inj hE
  exact x_lret hC hP hS hB dX0_worthOf_36
noncomputable def fX0_worthOf_4 (V : XV) (z : XS) (x1 : Int32) (x2 : Int32) : Option (Int64 × XS) := if x2 = (12 : Int32) then ((fX0_worthOf_4_J14 V z x2)) else (if x2 = (z.1 9) then ((fX0_worthOf_4_J14 V z x2)) else ((fX0_stopsFor z x2).bind fun r_4 => (fX0_onOf_4 V z x1 x2).bind fun r_5 => some ((if r_5.1 < r_4 then r_4 else r_5.1), r_5.2)))
set_option maxHeartbeats 1000000 in
theorem wX0_worthOf_4 {l : Launch} {E : XE} (z : XS) (x1 : Int32) (x2 : Int32) (y : Int64 × XS) (hE : fX0_worthOf_4 E.2.2.2.2.2 z x1 x2 = some y) : xM l yX0_worthOf (ws_ yX0_worthOf cX0_worthOf 3 (some .long)) rmX0_worthOf_4 E z [.ref (E.2.2.1 0), .int x1, .int x2] (some (.long y.1)) y.2 := by
  refine x_met (own := RX0) (by decide) rfl (Nat.le_of_ble_eq_true rfl) (fun p e s m args below meth c hC => ?_)
  intro H locs cells slots ls hP hS hB hl
  have hx := hC.1
  have hb := hC.2.1
  have hown := hC.2.2.2.2.2.1
  have hts := hC.2.2.2.2.2.2.1
  have hl : lv_has ls 3 [(0, .ref (E.2.2.1 0)), (1, .int x1), (2, .int x2)] := hl
  unfold fX0_worthOf_4 at hE
  refine lv_iload_n hx hb dX0_worthOf_0 rfl (lv_at hl 2 rfl) ?_
  refine lv_bipush (v := 12) hx hb dX0_worthOf_1 (by decide) ?_
  refine lv_icmp_eq (tgt := 14) hx hb dX0_worthOf_3 (by decide) (fun c_1 => ?_) (fun c_1 => ?_)
  · have hE := ip c_1 hE
    exact wX0_worthOf_4_J14 z x2 hC y hE H locs cells slots ls hP hS hB (lv_sub hl [0, 2] rfl)
  · have hE := iq c_1 hE
    refine lv_iload_n hx hb dX0_worthOf_6 rfl (lv_at hl 2 rfl) ?_
    refine lv_aload_n hx hb dX0_worthOf_7 rfl (lv_at hl 0 rfl) ?_
    refine gX_272 hC hP dX0_worthOf_8 ?_
    refine lv_icmp_ne (tgt := 22) hx hb dX0_worthOf_11 (by decide) (fun c_3 => ?_) (fun c_3 => ?_)
    · have hE := iq c_3 hE
      refine lv_aload_n hx hb dX0_worthOf_22 rfl (lv_at hl 0 rfl) ?_
      refine lv_iload_n hx hb dX0_worthOf_23 rfl (lv_at hl 2 rfl) ?_
      obtain ⟨r_4, h_4, hE⟩ := ob hE
      refine x_callV (rc1 := _) (rs1 := _) [.int x2] (E.2.2.1 0) hC hP hS hB hl.1 (wX0_stopsFor z x2 r_4 h_4) (xC.c0 hC) (xw_get E _ (k := 0) (by decide)) (cwV 1 hts lkX0_306 rfl rfl rfl cdX0_stopsFor ⟨Nat.le_of_ble_eq_true rfl, Nat.le_of_ble_eq_true rfl⟩) rfl rfl (lv_room (Nat.le_of_ble_eq_true rfl)) ⟨Nat.le_of_eq (Nat.zero_add _), Nat.le_of_eq (Nat.zero_add _)⟩ dX0_worthOf_24 (fun H locs cells slots hP hS hB => ?_)
      show W p l e _ s m args below meth c H locs cells slots _ (F0 m _ ls (.long r_4 :: []))
      refine lv_aload_n hx hb dX0_worthOf_27 rfl (lv_at hl 0 rfl) ?_
      refine lv_iload_n hx hb dX0_worthOf_28 rfl (lv_at hl 1 rfl) ?_
      refine lv_iload_n hx hb dX0_worthOf_29 rfl (lv_at hl 2 rfl) ?_
      obtain ⟨r_5, h_5, hE⟩ := ob hE
      refine x_callV (rc1 := _) (rs1 := _) [.int x1, .int x2] (E.2.2.1 0) hC hP hS hB hl.1 (wX0_onOf_4 z x1 x2 r_5 h_5) (xC.c0 hC) (xw_get E _ (k := 0) (by decide)) (cwV 2 hts lkX0_310 rfl rfl rfl cdX0_onOf ⟨Nat.le_of_ble_eq_true rfl, Nat.le_of_ble_eq_true rfl⟩) rfl rfl (lv_room (Nat.le_of_ble_eq_true rfl)) ⟨Nat.le_of_eq (Nat.zero_add _), Nat.le_of_eq (Nat.zero_add _)⟩ dX0_worthOf_30 (fun H locs cells slots hP hS hB => ?_)
      show W p l e _ s m args below meth c H locs cells slots _ (F0 m _ ls (.long r_5.1 :: .long r_4 :: []))
      refine va_mmax_long hx hb (hC.2.2.2.2.1.trans hl.1.symm) hown (hts _ q1012) (hts _ q1006) (hts _ q135) (hts _ q1007) (Nat.le_of_ble_eq_true rfl) (Nat.le_of_ble_eq_true rfl) (Nat.le_trans (Nat.le_add_right _ _) hB.1) (Nat.le_trans (Nat.le_add_right _ _) hB.2) dX0_worthOf_33 ?_
      obtain rfl := Option.some.inj hE
      exact x_lret hC hP hS hB dX0_worthOf_36
    · have hE := ip c_3 hE
      exact wX0_worthOf_4_J14 z x2 hC y hE H locs cells slots ls hP hS hB (lv_sub hl [0, 2] rfl)
noncomputable def fX0_onOf_5 (V : XV) (z : XS) (x1 : Int32) (x2 : Int32) : Option (Int64 × XS) := (fX0_oddsAt V z x1 x2).bind fun r_1 => (fX0_worthOf_4 V r_1.2 x1 (x2 + (1 : Int32))).bind fun r_2 => some ((((10 : Int32) - r_1.1).toInt64 * r_2.1), r_2.2)
set_option maxHeartbeats 1000000 in
theorem wX0_onOf_5 {l : Launch} {E : XE} (z : XS) (x1 : Int32) (x2 : Int32) (y : Int64 × XS) (hE : fX0_onOf_5 E.2.2.2.2.2 z x1 x2 = some y) : xM l yX0_onOf (ws_ yX0_onOf cX0_onOf 3 (some .long)) rmX0_onOf_5 E z [.ref (E.2.2.1 0), .int x1, .int x2] (some (.long y.1)) y.2 := by
  refine x_met (own := RX0) (by decide) rfl (Nat.le_of_ble_eq_true rfl) (fun p e s m args below meth c hC => ?_)
  intro H locs cells slots ls hP hS hB hl
  have hx := hC.1
  have hb := hC.2.1
  have hown := hC.2.2.2.2.2.1
  have hts := hC.2.2.2.2.2.2.1
  have hl : lv_has ls 3 [(0, .ref (E.2.2.1 0)), (1, .int x1), (2, .int x2)] := hl
  unfold fX0_onOf_5 at hE
  refine lv_bipush (v := 10) hx hb dX0_onOf_0 (by decide) ?_
  refine lv_aload_n hx hb dX0_onOf_2 rfl (lv_at hl 0 rfl) ?_
  refine lv_iload_n hx hb dX0_onOf_3 rfl (lv_at hl 1 rfl) ?_
  refine lv_iload_n hx hb dX0_onOf_4 rfl (lv_at hl 2 rfl) ?_
  obtain ⟨r_1, h_1, hE⟩ := ob hE
  refine x_callV (rc1 := _) (rs1 := _) [.int x1, .int x2] (E.2.2.1 0) hC hP hS hB hl.1 (wX0_oddsAt z x1 x2 r_1 h_1) (xC.c0 hC) (xw_get E _ (k := 0) (by decide)) (cwV 2 hts lkX0_275 rfl rfl rfl cdX0_oddsAt ⟨Nat.le_of_ble_eq_true rfl, Nat.le_of_ble_eq_true rfl⟩) rfl rfl (lv_room (Nat.le_of_ble_eq_true rfl)) ⟨Nat.le_of_eq (Nat.zero_add _), Nat.le_of_eq (Nat.zero_add _)⟩ dX0_onOf_5 (fun H locs cells slots hP hS hB => ?_)
  show W p l e _ s m args below meth c H locs cells slots _ (F0 m _ ls (.int r_1.1 :: .int (10 : Int32) :: []))
  refine lv_isub hx hb dX0_onOf_8 ?_
  refine lv_i2l hx hb dX0_onOf_9 rfl ?_
  refine lv_aload_n hx hb dX0_onOf_10 rfl (lv_at hl 0 rfl) ?_
  refine lv_iload_n hx hb dX0_onOf_11 rfl (lv_at hl 1 rfl) ?_
  refine lv_iload_n hx hb dX0_onOf_12 rfl (lv_at hl 2 rfl) ?_
  refine lv_iconst (v := 1) hx hb dX0_onOf_13 (by decide) ?_
  refine lv_iadd hx hb dX0_onOf_14 ?_
  obtain ⟨r_2, h_2, hE⟩ := ob hE
  refine x_callV (rc1 := _) (rs1 := _) [.int x1, .int (x2 + (1 : Int32))] (E.2.2.1 0) hC hP hS hB hl.1 (wX0_worthOf_4 r_1.2 x1 (x2 + (1 : Int32)) r_2 h_2) (xC.c0 hC) (xw_get E _ (k := 0) (by decide)) (cwV 2 hts lkX0_303 rfl rfl rfl cdX0_worthOf ⟨Nat.le_of_ble_eq_true rfl, Nat.le_of_ble_eq_true rfl⟩) rfl rfl (lv_room (Nat.le_of_ble_eq_true rfl)) ⟨Nat.le_of_eq (Nat.zero_add _), Nat.le_of_eq (Nat.zero_add _)⟩ dX0_onOf_15 (fun H locs cells slots hP hS hB => ?_)
  show W p l e _ s m args below meth c H locs cells slots _ (F0 m _ ls (.long r_2.1 :: .long ((10 : Int32) - r_1.1).toInt64 :: []))
  refine lv_lmul hx hb dX0_onOf_18 ?_
  obtain rfl := Option.some.inj hE
  exact x_lret hC hP hS hB dX0_onOf_19
noncomputable def fX0_worthOf_5_J14 (V : XV) (z : XS) (x2 : Int32) : Option (Int64 × XS) := (fX0_stopsFor z x2).bind fun r_2 => some (r_2, z)
set_option maxHeartbeats 1000000 in
theorem wX0_worthOf_5_J14 {p : Program} {l : Launch} {e : Env} {s : State} {m : MethodId} {args : Array Value} {below : List Frame} {meth : Method} {c : Code} {E : XE} (z : XS) (x2 : Int32) (hC : xC E RX0 cX0_worthOf 3 (some .long) p s m args meth c) (y : Int64 × XS) (hE : fX0_worthOf_5_J14 E.2.2.2.2.2 z x2 = some y) : xW p l e rmX0_worthOf_5 s m args below meth c E 3 (xQ E rmX0_worthOf_5 below args s (some (.long y.1)) y.2) 0 0 14 [(0, .ref (E.2.2.1 0)), (2, .int x2)] [] z := by
  intro H locs cells slots ls hP hS hB hl
  have hx := hC.1
  have hb := hC.2.1
  have hown := hC.2.2.2.2.2.1
  have hts := hC.2.2.2.2.2.2.1
  unfold fX0_worthOf_5_J14 at hE
  refine lv_aload_n hx hb dX0_worthOf_14 rfl (lv_at hl 0 rfl) ?_
  refine lv_iload_n hx hb dX0_worthOf_15 rfl (lv_at hl 1 rfl) ?_
  obtain ⟨r_2, h_2, hE⟩ := ob hE
  refine x_callV (rc1 := _) (rs1 := _) [.int x2] (E.2.2.1 0) hC hP hS hB hl.1 (wX0_stopsFor z x2 r_2 h_2) (xC.c0 hC) (xw_get E _ (k := 0) (by decide)) (cwV 1 hts lkX0_306 rfl rfl rfl cdX0_stopsFor ⟨Nat.le_of_ble_eq_true rfl, Nat.le_of_ble_eq_true rfl⟩) rfl rfl (lv_room (Nat.le_of_ble_eq_true rfl)) ⟨Nat.le_of_eq (Nat.zero_add _), Nat.le_of_eq (Nat.zero_add _)⟩ dX0_worthOf_16 (fun H locs cells slots hP hS hB => ?_)
  show W p l e _ s m args below meth c H locs cells slots _ (F0 m _ ls (.long r_2 :: []))
  refine lv_goto (tgt := 36) hx hb dX0_worthOf_19 (by decide) ?_
  obtain rfl := Option.some.inj hE
  exact x_lret hC hP hS hB dX0_worthOf_36
noncomputable def fX0_worthOf_5 (V : XV) (z : XS) (x1 : Int32) (x2 : Int32) : Option (Int64 × XS) := if x2 = (12 : Int32) then ((fX0_worthOf_5_J14 V z x2)) else (if x2 = (z.1 9) then ((fX0_worthOf_5_J14 V z x2)) else ((fX0_stopsFor z x2).bind fun r_4 => (fX0_onOf_5 V z x1 x2).bind fun r_5 => some ((if r_5.1 < r_4 then r_4 else r_5.1), r_5.2)))
set_option maxHeartbeats 1000000 in
theorem wX0_worthOf_5 {l : Launch} {E : XE} (z : XS) (x1 : Int32) (x2 : Int32) (y : Int64 × XS) (hE : fX0_worthOf_5 E.2.2.2.2.2 z x1 x2 = some y) : xM l yX0_worthOf (ws_ yX0_worthOf cX0_worthOf 3 (some .long)) rmX0_worthOf_5 E z [.ref (E.2.2.1 0), .int x1, .int x2] (some (.long y.1)) y.2 := by
  refine x_met (own := RX0) (by decide) rfl (Nat.le_of_ble_eq_true rfl) (fun p e s m args below meth c hC => ?_)
  intro H locs cells slots ls hP hS hB hl
  have hx := hC.1
  have hb := hC.2.1
  have hown := hC.2.2.2.2.2.1
  have hts := hC.2.2.2.2.2.2.1
  have hl : lv_has ls 3 [(0, .ref (E.2.2.1 0)), (1, .int x1), (2, .int x2)] := hl
  unfold fX0_worthOf_5 at hE
  refine lv_iload_n hx hb dX0_worthOf_0 rfl (lv_at hl 2 rfl) ?_
  refine lv_bipush (v := 12) hx hb dX0_worthOf_1 (by decide) ?_
  refine lv_icmp_eq (tgt := 14) hx hb dX0_worthOf_3 (by decide) (fun c_1 => ?_) (fun c_1 => ?_)
  · have hE := ip c_1 hE
    exact wX0_worthOf_5_J14 z x2 hC y hE H locs cells slots ls hP hS hB (lv_sub hl [0, 2] rfl)
  · have hE := iq c_1 hE
    refine lv_iload_n hx hb dX0_worthOf_6 rfl (lv_at hl 2 rfl) ?_
    refine lv_aload_n hx hb dX0_worthOf_7 rfl (lv_at hl 0 rfl) ?_
    refine gX_272 hC hP dX0_worthOf_8 ?_
    refine lv_icmp_ne (tgt := 22) hx hb dX0_worthOf_11 (by decide) (fun c_3 => ?_) (fun c_3 => ?_)
    · have hE := iq c_3 hE
      refine lv_aload_n hx hb dX0_worthOf_22 rfl (lv_at hl 0 rfl) ?_
      refine lv_iload_n hx hb dX0_worthOf_23 rfl (lv_at hl 2 rfl) ?_
      obtain ⟨r_4, h_4, hE⟩ := ob hE
      refine x_callV (rc1 := _) (rs1 := _) [.int x2] (E.2.2.1 0) hC hP hS hB hl.1 (wX0_stopsFor z x2 r_4 h_4) (xC.c0 hC) (xw_get E _ (k := 0) (by decide)) (cwV 1 hts lkX0_306 rfl rfl rfl cdX0_stopsFor ⟨Nat.le_of_ble_eq_true rfl, Nat.le_of_ble_eq_true rfl⟩) rfl rfl (lv_room (Nat.le_of_ble_eq_true rfl)) ⟨Nat.le_of_eq (Nat.zero_add _), Nat.le_of_eq (Nat.zero_add _)⟩ dX0_worthOf_24 (fun H locs cells slots hP hS hB => ?_)
      show W p l e _ s m args below meth c H locs cells slots _ (F0 m _ ls (.long r_4 :: []))
      refine lv_aload_n hx hb dX0_worthOf_27 rfl (lv_at hl 0 rfl) ?_
      refine lv_iload_n hx hb dX0_worthOf_28 rfl (lv_at hl 1 rfl) ?_
      refine lv_iload_n hx hb dX0_worthOf_29 rfl (lv_at hl 2 rfl) ?_
      obtain ⟨r_5, h_5, hE⟩ := ob hE
      refine x_callV (rc1 := _) (rs1 := _) [.int x1, .int x2] (E.2.2.1 0) hC hP hS hB hl.1 (wX0_onOf_5 z x1 x2 r_5 h_5) (xC.c0 hC) (xw_get E _ (k := 0) (by decide)) (cwV 2 hts lkX0_310 rfl rfl rfl cdX0_onOf ⟨Nat.le_of_ble_eq_true rfl, Nat.le_of_ble_eq_true rfl⟩) rfl rfl (lv_room (Nat.le_of_ble_eq_true rfl)) ⟨Nat.le_of_eq (Nat.zero_add _), Nat.le_of_eq (Nat.zero_add _)⟩ dX0_worthOf_30 (fun H locs cells slots hP hS hB => ?_)
      show W p l e _ s m args below meth c H locs cells slots _ (F0 m _ ls (.long r_5.1 :: .long r_4 :: []))
      refine va_mmax_long hx hb (hC.2.2.2.2.1.trans hl.1.symm) hown (hts _ q1012) (hts _ q1006) (hts _ q135) (hts _ q1007) (Nat.le_of_ble_eq_true rfl) (Nat.le_of_ble_eq_true rfl) (Nat.le_trans (Nat.le_add_right _ _) hB.1) (Nat.le_trans (Nat.le_add_right _ _) hB.2) dX0_worthOf_33 ?_
      obtain rfl := Option.some.inj hE
      exact x_lret hC hP hS hB dX0_worthOf_36
    · have hE := ip c_3 hE
      exact wX0_worthOf_5_J14 z x2 hC y hE H locs cells slots ls hP hS hB (lv_sub hl [0, 2] rfl)
noncomputable def fX0_onOf_6 (V : XV) (z : XS) (x1 : Int32) (x2 : Int32) : Option (Int64 × XS) := (fX0_oddsAt V z x1 x2).bind fun r_1 => (fX0_worthOf_5 V r_1.2 x1 (x2 + (1 : Int32))).bind fun r_2 => some ((((10 : Int32) - r_1.1).toInt64 * r_2.1), r_2.2)
set_option maxHeartbeats 1000000 in
theorem wX0_onOf_6 {l : Launch} {E : XE} (z : XS) (x1 : Int32) (x2 : Int32) (y : Int64 × XS) (hE : fX0_onOf_6 E.2.2.2.2.2 z x1 x2 = some y) : xM l yX0_onOf (ws_ yX0_onOf cX0_onOf 3 (some .long)) rmX0_onOf_6 E z [.ref (E.2.2.1 0), .int x1, .int x2] (some (.long y.1)) y.2 := by
  refine x_met (own := RX0) (by decide) rfl (Nat.le_of_ble_eq_true rfl) (fun p e s m args below meth c hC => ?_)
  intro H locs cells slots ls hP hS hB hl
  have hx := hC.1
  have hb := hC.2.1
  have hown := hC.2.2.2.2.2.1
  have hts := hC.2.2.2.2.2.2.1
  have hl : lv_has ls 3 [(0, .ref (E.2.2.1 0)), (1, .int x1), (2, .int x2)] := hl
  unfold fX0_onOf_6 at hE
  refine lv_bipush (v := 10) hx hb dX0_onOf_0 (by decide) ?_
  refine lv_aload_n hx hb dX0_onOf_2 rfl (lv_at hl 0 rfl) ?_
  refine lv_iload_n hx hb dX0_onOf_3 rfl (lv_at hl 1 rfl) ?_
  refine lv_iload_n hx hb dX0_onOf_4 rfl (lv_at hl 2 rfl) ?_
  obtain ⟨r_1, h_1, hE⟩ := ob hE
  refine x_callV (rc1 := _) (rs1 := _) [.int x1, .int x2] (E.2.2.1 0) hC hP hS hB hl.1 (wX0_oddsAt z x1 x2 r_1 h_1) (xC.c0 hC) (xw_get E _ (k := 0) (by decide)) (cwV 2 hts lkX0_275 rfl rfl rfl cdX0_oddsAt ⟨Nat.le_of_ble_eq_true rfl, Nat.le_of_ble_eq_true rfl⟩) rfl rfl (lv_room (Nat.le_of_ble_eq_true rfl)) ⟨Nat.le_of_eq (Nat.zero_add _), Nat.le_of_eq (Nat.zero_add _)⟩ dX0_onOf_5 (fun H locs cells slots hP hS hB => ?_)
  show W p l e _ s m args below meth c H locs cells slots _ (F0 m _ ls (.int r_1.1 :: .int (10 : Int32) :: []))
  refine lv_isub hx hb dX0_onOf_8 ?_
  refine lv_i2l hx hb dX0_onOf_9 rfl ?_
  refine lv_aload_n hx hb dX0_onOf_10 rfl (lv_at hl 0 rfl) ?_
  refine lv_iload_n hx hb dX0_onOf_11 rfl (lv_at hl 1 rfl) ?_
  refine lv_iload_n hx hb dX0_onOf_12 rfl (lv_at hl 2 rfl) ?_
  refine lv_iconst (v := 1) hx hb dX0_onOf_13 (by decide) ?_
  refine lv_iadd hx hb dX0_onOf_14 ?_
  obtain ⟨r_2, h_2, hE⟩ := ob hE
  refine x_callV (rc1 := _) (rs1 := _) [.int x1, .int (x2 + (1 : Int32))] (E.2.2.1 0) hC hP hS hB hl.1 (wX0_worthOf_5 r_1.2 x1 (x2 + (1 : Int32)) r_2 h_2) (xC.c0 hC) (xw_get E _ (k := 0) (by decide)) (cwV 2 hts lkX0_303 rfl rfl rfl cdX0_worthOf ⟨Nat.le_of_ble_eq_true rfl, Nat.le_of_ble_eq_true rfl⟩) rfl rfl (lv_room (Nat.le_of_ble_eq_true rfl)) ⟨Nat.le_of_eq (Nat.zero_add _), Nat.le_of_eq (Nat.zero_add _)⟩ dX0_onOf_15 (fun H locs cells slots hP hS hB => ?_)
  show W p l e _ s m args below meth c H locs cells slots _ (F0 m _ ls (.long r_2.1 :: .long ((10 : Int32) - r_1.1).toInt64 :: []))
  refine lv_lmul hx hb dX0_onOf_18 ?_
  obtain rfl := Option.some.inj hE
  exact x_lret hC hP hS hB dX0_onOf_19
noncomputable def fX0_worthOf_6_J14 (V : XV) (z : XS) (x2 : Int32) : Option (Int64 × XS) := (fX0_stopsFor z x2).bind fun r_2 => some (r_2, z)
set_option maxHeartbeats 1000000 in
theorem wX0_worthOf_6_J14 {p : Program} {l : Launch} {e : Env} {s : State} {m : MethodId} {args : Array Value} {below : List Frame} {meth : Method} {c : Code} {E : XE} (z : XS) (x2 : Int32) (hC : xC E RX0 cX0_worthOf 3 (some .long) p s m args meth c) (y : Int64 × XS) (hE : fX0_worthOf_6_J14 E.2.2.2.2.2 z x2 = some y) : xW p l e rmX0_worthOf_6 s m args below meth c E 3 (xQ E rmX0_worthOf_6 below args s (some (.long y.1)) y.2) 0 0 14 [(0, .ref (E.2.2.1 0)), (2, .int x2)] [] z := by
  intro H locs cells slots ls hP hS hB hl
  have hx := hC.1
  have hb := hC.2.1
  have hown := hC.2.2.2.2.2.1
  have hts := hC.2.2.2.2.2.2.1
  unfold fX0_worthOf_6_J14 at hE
  refine lv_aload_n hx hb dX0_worthOf_14 rfl (lv_at hl 0 rfl) ?_
  refine lv_iload_n hx hb dX0_worthOf_15 rfl (lv_at hl 1 rfl) ?_
  obtain ⟨r_2, h_2, hE⟩ := ob hE
  refine x_callV (rc1 := _) (rs1 := _) [.int x2] (E.2.2.1 0) hC hP hS hB hl.1 (wX0_stopsFor z x2 r_2 h_2) (xC.c0 hC) (xw_get E _ (k := 0) (by decide)) (cwV 1 hts lkX0_306 rfl rfl rfl cdX0_stopsFor ⟨Nat.le_of_ble_eq_true rfl, Nat.le_of_ble_eq_true rfl⟩) rfl rfl (lv_room (Nat.le_of_ble_eq_true rfl)) ⟨Nat.le_of_eq (Nat.zero_add _), Nat.le_of_eq (Nat.zero_add _)⟩ dX0_worthOf_16 (fun H locs cells slots hP hS hB => ?_)
  show W p l e _ s m args below meth c H locs cells slots _ (F0 m _ ls (.long r_2 :: []))
  refine lv_goto (tgt := 36) hx hb dX0_worthOf_19 (by decide) ?_
  obtain rfl := Option.some.inj hE
  exact x_lret hC hP hS hB dX0_worthOf_36
noncomputable def fX0_worthOf_6 (V : XV) (z : XS) (x1 : Int32) (x2 : Int32) : Option (Int64 × XS) := if x2 = (12 : Int32) then ((fX0_worthOf_6_J14 V z x2)) else (if x2 = (z.1 9) then ((fX0_worthOf_6_J14 V z x2)) else ((fX0_stopsFor z x2).bind fun r_4 => (fX0_onOf_6 V z x1 x2).bind fun r_5 => some ((if r_5.1 < r_4 then r_4 else r_5.1), r_5.2)))
set_option maxHeartbeats 1000000 in
theorem wX0_worthOf_6 {l : Launch} {E : XE} (z : XS) (x1 : Int32) (x2 : Int32) (y : Int64 × XS) (hE : fX0_worthOf_6 E.2.2.2.2.2 z x1 x2 = some y) : xM l yX0_worthOf (ws_ yX0_worthOf cX0_worthOf 3 (some .long)) rmX0_worthOf_6 E z [.ref (E.2.2.1 0), .int x1, .int x2] (some (.long y.1)) y.2 := by
  refine x_met (own := RX0) (by decide) rfl (Nat.le_of_ble_eq_true rfl) (fun p e s m args below meth c hC => ?_)
  intro H locs cells slots ls hP hS hB hl
  have hx := hC.1
  have hb := hC.2.1
  have hown := hC.2.2.2.2.2.1
  have hts := hC.2.2.2.2.2.2.1
  have hl : lv_has ls 3 [(0, .ref (E.2.2.1 0)), (1, .int x1), (2, .int x2)] := hl
  unfold fX0_worthOf_6 at hE
  refine lv_iload_n hx hb dX0_worthOf_0 rfl (lv_at hl 2 rfl) ?_
  refine lv_bipush (v := 12) hx hb dX0_worthOf_1 (by decide) ?_
  refine lv_icmp_eq (tgt := 14) hx hb dX0_worthOf_3 (by decide) (fun c_1 => ?_) (fun c_1 => ?_)
  · have hE := ip c_1 hE
    exact wX0_worthOf_6_J14 z x2 hC y hE H locs cells slots ls hP hS hB (lv_sub hl [0, 2] rfl)
  · have hE := iq c_1 hE
    refine lv_iload_n hx hb dX0_worthOf_6 rfl (lv_at hl 2 rfl) ?_
    refine lv_aload_n hx hb dX0_worthOf_7 rfl (lv_at hl 0 rfl) ?_
    refine gX_272 hC hP dX0_worthOf_8 ?_
    refine lv_icmp_ne (tgt := 22) hx hb dX0_worthOf_11 (by decide) (fun c_3 => ?_) (fun c_3 => ?_)
    · have hE := iq c_3 hE
      refine lv_aload_n hx hb dX0_worthOf_22 rfl (lv_at hl 0 rfl) ?_
      refine lv_iload_n hx hb dX0_worthOf_23 rfl (lv_at hl 2 rfl) ?_
      obtain ⟨r_4, h_4, hE⟩ := ob hE
      refine x_callV (rc1 := _) (rs1 := _) [.int x2] (E.2.2.1 0) hC hP hS hB hl.1 (wX0_stopsFor z x2 r_4 h_4) (xC.c0 hC) (xw_get E _ (k := 0) (by decide)) (cwV 1 hts lkX0_306 rfl rfl rfl cdX0_stopsFor ⟨Nat.le_of_ble_eq_true rfl, Nat.le_of_ble_eq_true rfl⟩) rfl rfl (lv_room (Nat.le_of_ble_eq_true rfl)) ⟨Nat.le_of_eq (Nat.zero_add _), Nat.le_of_eq (Nat.zero_add _)⟩ dX0_worthOf_24 (fun H locs cells slots hP hS hB => ?_)
      show W p l e _ s m args below meth c H locs cells slots _ (F0 m _ ls (.long r_4 :: []))
      refine lv_aload_n hx hb dX0_worthOf_27 rfl (lv_at hl 0 rfl) ?_
      refine lv_iload_n hx hb dX0_worthOf_28 rfl (lv_at hl 1 rfl) ?_
      refine lv_iload_n hx hb dX0_worthOf_29 rfl (lv_at hl 2 rfl) ?_
      obtain ⟨r_5, h_5, hE⟩ := ob hE
      refine x_callV (rc1 := _) (rs1 := _) [.int x1, .int x2] (E.2.2.1 0) hC hP hS hB hl.1 (wX0_onOf_6 z x1 x2 r_5 h_5) (xC.c0 hC) (xw_get E _ (k := 0) (by decide)) (cwV 2 hts lkX0_310 rfl rfl rfl cdX0_onOf ⟨Nat.le_of_ble_eq_true rfl, Nat.le_of_ble_eq_true rfl⟩) rfl rfl (lv_room (Nat.le_of_ble_eq_true rfl)) ⟨Nat.le_of_eq (Nat.zero_add _), Nat.le_of_eq (Nat.zero_add _)⟩ dX0_worthOf_30 (fun H locs cells slots hP hS hB => ?_)
      show W p l e _ s m args below meth c H locs cells slots _ (F0 m _ ls (.long r_5.1 :: .long r_4 :: []))
      refine va_mmax_long hx hb (hC.2.2.2.2.1.trans hl.1.symm) hown (hts _ q1012) (hts _ q1006) (hts _ q135) (hts _ q1007) (Nat.le_of_ble_eq_true rfl) (Nat.le_of_ble_eq_true rfl) (Nat.le_trans (Nat.le_add_right _ _) hB.1) (Nat.le_trans (Nat.le_add_right _ _) hB.2) dX0_worthOf_33 ?_
      obtain rfl := Option.some.inj hE
      exact x_lret hC hP hS hB dX0_worthOf_36
    · have hE := ip c_3 hE
      exact wX0_worthOf_6_J14 z x2 hC y hE H locs cells slots ls hP hS hB (lv_sub hl [0, 2] rfl)
noncomputable def fX0_onOf_7 (V : XV) (z : XS) (x1 : Int32) (x2 : Int32) : Option (Int64 × XS) := (fX0_oddsAt V z x1 x2).bind fun r_1 => (fX0_worthOf_6 V r_1.2 x1 (x2 + (1 : Int32))).bind fun r_2 => some ((((10 : Int32) - r_1.1).toInt64 * r_2.1), r_2.2)
set_option maxHeartbeats 1000000 in
theorem wX0_onOf_7 {l : Launch} {E : XE} (z : XS) (x1 : Int32) (x2 : Int32) (y : Int64 × XS) (hE : fX0_onOf_7 E.2.2.2.2.2 z x1 x2 = some y) : xM l yX0_onOf (ws_ yX0_onOf cX0_onOf 3 (some .long)) rmX0_onOf_7 E z [.ref (E.2.2.1 0), .int x1, .int x2] (some (.long y.1)) y.2 := by
  refine x_met (own := RX0) (by decide) rfl (Nat.le_of_ble_eq_true rfl) (fun p e s m args below meth c hC => ?_)
  intro H locs cells slots ls hP hS hB hl
  have hx := hC.1
  have hb := hC.2.1
  have hown := hC.2.2.2.2.2.1
  have hts := hC.2.2.2.2.2.2.1
  have hl : lv_has ls 3 [(0, .ref (E.2.2.1 0)), (1, .int x1), (2, .int x2)] := hl
  unfold fX0_onOf_7 at hE
  refine lv_bipush (v := 10) hx hb dX0_onOf_0 (by decide) ?_
  refine lv_aload_n hx hb dX0_onOf_2 rfl (lv_at hl 0 rfl) ?_
  refine lv_iload_n hx hb dX0_onOf_3 rfl (lv_at hl 1 rfl) ?_
  refine lv_iload_n hx hb dX0_onOf_4 rfl (lv_at hl 2 rfl) ?_
  obtain ⟨r_1, h_1, hE⟩ := ob hE
  refine x_callV (rc1 := _) (rs1 := _) [.int x1, .int x2] (E.2.2.1 0) hC hP hS hB hl.1 (wX0_oddsAt z x1 x2 r_1 h_1) (xC.c0 hC) (xw_get E _ (k := 0) (by decide)) (cwV 2 hts lkX0_275 rfl rfl rfl cdX0_oddsAt ⟨Nat.le_of_ble_eq_true rfl, Nat.le_of_ble_eq_true rfl⟩) rfl rfl (lv_room (Nat.le_of_ble_eq_true rfl)) ⟨Nat.le_of_eq (Nat.zero_add _), Nat.le_of_eq (Nat.zero_add _)⟩ dX0_onOf_5 (fun H locs cells slots hP hS hB => ?_)
  show W p l e _ s m args below meth c H locs cells slots _ (F0 m _ ls (.int r_1.1 :: .int (10 : Int32) :: []))
  refine lv_isub hx hb dX0_onOf_8 ?_
  refine lv_i2l hx hb dX0_onOf_9 rfl ?_
  refine lv_aload_n hx hb dX0_onOf_10 rfl (lv_at hl 0 rfl) ?_
  refine lv_iload_n hx hb dX0_onOf_11 rfl (lv_at hl 1 rfl) ?_
  refine lv_iload_n hx hb dX0_onOf_12 rfl (lv_at hl 2 rfl) ?_
  refine lv_iconst (v := 1) hx hb dX0_onOf_13 (by decide) ?_
  refine lv_iadd hx hb dX0_onOf_14 ?_
  obtain ⟨r_2, h_2, hE⟩ := ob hE
  refine x_callV (rc1 := _) (rs1 := _) [.int x1, .int (x2 + (1 : Int32))] (E.2.2.1 0) hC hP hS hB hl.1 (wX0_worthOf_6 r_1.2 x1 (x2 + (1 : Int32)) r_2 h_2) (xC.c0 hC) (xw_get E _ (k := 0) (by decide)) (cwV 2 hts lkX0_303 rfl rfl rfl cdX0_worthOf ⟨Nat.le_of_ble_eq_true rfl, Nat.le_of_ble_eq_true rfl⟩) rfl rfl (lv_room (Nat.le_of_ble_eq_true rfl)) ⟨Nat.le_of_eq (Nat.zero_add _), Nat.le_of_eq (Nat.zero_add _)⟩ dX0_onOf_15 (fun H locs cells slots hP hS hB => ?_)
  show W p l e _ s m args below meth c H locs cells slots _ (F0 m _ ls (.long r_2.1 :: .long ((10 : Int32) - r_1.1).toInt64 :: []))
  refine lv_lmul hx hb dX0_onOf_18 ?_
  obtain rfl := Option.some.inj hE
  exact x_lret hC hP hS hB dX0_onOf_19
noncomputable def fX0_worthOf_7_J14 (V : XV) (z : XS) (x2 : Int32) : Option (Int64 × XS) := (fX0_stopsFor z x2).bind fun r_2 => some (r_2, z)
set_option maxHeartbeats 1000000 in
theorem wX0_worthOf_7_J14 {p : Program} {l : Launch} {e : Env} {s : State} {m : MethodId} {args : Array Value} {below : List Frame} {meth : Method} {c : Code} {E : XE} (z : XS) (x2 : Int32) (hC : xC E RX0 cX0_worthOf 3 (some .long) p s m args meth c) (y : Int64 × XS) (hE : fX0_worthOf_7_J14 E.2.2.2.2.2 z x2 = some y) : xW p l e rmX0_worthOf_7 s m args below meth c E 3 (xQ E rmX0_worthOf_7 below args s (some (.long y.1)) y.2) 0 0 14 [(0, .ref (E.2.2.1 0)), (2, .int x2)] [] z := by
  intro H locs cells slots ls hP hS hB hl
  have hx := hC.1
  have hb := hC.2.1
  have hown := hC.2.2.2.2.2.1
  have hts := hC.2.2.2.2.2.2.1
  unfold fX0_worthOf_7_J14 at hE
  refine lv_aload_n hx hb dX0_worthOf_14 rfl (lv_at hl 0 rfl) ?_
  refine lv_iload_n hx hb dX0_worthOf_15 rfl (lv_at hl 1 rfl) ?_
  obtain ⟨r_2, h_2, hE⟩ := ob hE
  refine x_callV (rc1 := _) (rs1 := _) [.int x2] (E.2.2.1 0) hC hP hS hB hl.1 (wX0_stopsFor z x2 r_2 h_2) (xC.c0 hC) (xw_get E _ (k := 0) (by decide)) (cwV 1 hts lkX0_306 rfl rfl rfl cdX0_stopsFor ⟨Nat.le_of_ble_eq_true rfl, Nat.le_of_ble_eq_true rfl⟩) rfl rfl (lv_room (Nat.le_of_ble_eq_true rfl)) ⟨Nat.le_of_eq (Nat.zero_add _), Nat.le_of_eq (Nat.zero_add _)⟩ dX0_worthOf_16 (fun H locs cells slots hP hS hB => ?_)
  show W p l e _ s m args below meth c H locs cells slots _ (F0 m _ ls (.long r_2 :: []))
  refine lv_goto (tgt := 36) hx hb dX0_worthOf_19 (by decide) ?_
  obtain rfl := Option.some.inj hE
  exact x_lret hC hP hS hB dX0_worthOf_36
noncomputable def fX0_worthOf_7 (V : XV) (z : XS) (x1 : Int32) (x2 : Int32) : Option (Int64 × XS) := if x2 = (12 : Int32) then ((fX0_worthOf_7_J14 V z x2)) else (if x2 = (z.1 9) then ((fX0_worthOf_7_J14 V z x2)) else ((fX0_stopsFor z x2).bind fun r_4 => (fX0_onOf_7 V z x1 x2).bind fun r_5 => some ((if r_5.1 < r_4 then r_4 else r_5.1), r_5.2)))
set_option maxHeartbeats 1000000 in
theorem wX0_worthOf_7 {l : Launch} {E : XE} (z : XS) (x1 : Int32) (x2 : Int32) (y : Int64 × XS) (hE : fX0_worthOf_7 E.2.2.2.2.2 z x1 x2 = some y) : xM l yX0_worthOf (ws_ yX0_worthOf cX0_worthOf 3 (some .long)) rmX0_worthOf_7 E z [.ref (E.2.2.1 0), .int x1, .int x2] (some (.long y.1)) y.2 := by
  refine x_met (own := RX0) (by decide) rfl (Nat.le_of_ble_eq_true rfl) (fun p e s m args below meth c hC => ?_)
  intro H locs cells slots ls hP hS hB hl
  have hx := hC.1
  have hb := hC.2.1
  have hown := hC.2.2.2.2.2.1
  have hts := hC.2.2.2.2.2.2.1
  have hl : lv_has ls 3 [(0, .ref (E.2.2.1 0)), (1, .int x1), (2, .int x2)] := hl
  unfold fX0_worthOf_7 at hE
  refine lv_iload_n hx hb dX0_worthOf_0 rfl (lv_at hl 2 rfl) ?_
  refine lv_bipush (v := 12) hx hb dX0_worthOf_1 (by decide) ?_
  refine lv_icmp_eq (tgt := 14) hx hb dX0_worthOf_3 (by decide) (fun c_1 => ?_) (fun c_1 => ?_)
  · have hE := ip c_1 hE
    exact wX0_worthOf_7_J14 z x2 hC y hE H locs cells slots ls hP hS hB (lv_sub hl [0, 2] rfl)
  · have hE := iq c_1 hE
    refine lv_iload_n hx hb dX0_worthOf_6 rfl (lv_at hl 2 rfl) ?_
    refine lv_aload_n hx hb dX0_worthOf_7 rfl (lv_at hl 0 rfl) ?_
    refine gX_272 hC hP dX0_worthOf_8 ?_
    refine lv_icmp_ne (tgt := 22) hx hb dX0_worthOf_11 (by decide) (fun c_3 => ?_) (fun c_3 => ?_)
    · have hE := iq c_3 hE
      refine lv_aload_n hx hb dX0_worthOf_22 rfl (lv_at hl 0 rfl) ?_
      refine lv_iload_n hx hb dX0_worthOf_23 rfl (lv_at hl 2 rfl) ?_
      obtain ⟨r_4, h_4, hE⟩ := ob hE
      refine x_callV (rc1 := _) (rs1 := _) [.int x2] (E.2.2.1 0) hC hP hS hB hl.1 (wX0_stopsFor z x2 r_4 h_4) (xC.c0 hC) (xw_get E _ (k := 0) (by decide)) (cwV 1 hts lkX0_306 rfl rfl rfl cdX0_stopsFor ⟨Nat.le_of_ble_eq_true rfl, Nat.le_of_ble_eq_true rfl⟩) rfl rfl (lv_room (Nat.le_of_ble_eq_true rfl)) ⟨Nat.le_of_eq (Nat.zero_add _), Nat.le_of_eq (Nat.zero_add _)⟩ dX0_worthOf_24 (fun H locs cells slots hP hS hB => ?_)
      show W p l e _ s m args below meth c H locs cells slots _ (F0 m _ ls (.long r_4 :: []))
      refine lv_aload_n hx hb dX0_worthOf_27 rfl (lv_at hl 0 rfl) ?_
      refine lv_iload_n hx hb dX0_worthOf_28 rfl (lv_at hl 1 rfl) ?_
      refine lv_iload_n hx hb dX0_worthOf_29 rfl (lv_at hl 2 rfl) ?_
      obtain ⟨r_5, h_5, hE⟩ := ob hE
      refine x_callV (rc1 := _) (rs1 := _) [.int x1, .int x2] (E.2.2.1 0) hC hP hS hB hl.1 (wX0_onOf_7 z x1 x2 r_5 h_5) (xC.c0 hC) (xw_get E _ (k := 0) (by decide)) (cwV 2 hts lkX0_310 rfl rfl rfl cdX0_onOf ⟨Nat.le_of_ble_eq_true rfl, Nat.le_of_ble_eq_true rfl⟩) rfl rfl (lv_room (Nat.le_of_ble_eq_true rfl)) ⟨Nat.le_of_eq (Nat.zero_add _), Nat.le_of_eq (Nat.zero_add _)⟩ dX0_worthOf_30 (fun H locs cells slots hP hS hB => ?_)
      show W p l e _ s m args below meth c H locs cells slots _ (F0 m _ ls (.long r_5.1 :: .long r_4 :: []))
      refine va_mmax_long hx hb (hC.2.2.2.2.1.trans hl.1.symm) hown (hts _ q1012) (hts _ q1006) (hts _ q135) (hts _ q1007) (Nat.le_of_ble_eq_true rfl) (Nat.le_of_ble_eq_true rfl) (Nat.le_trans (Nat.le_add_right _ _) hB.1) (Nat.le_trans (Nat.le_add_right _ _) hB.2) dX0_worthOf_33 ?_
      obtain rfl := Option.some.inj hE
      exact x_lret hC hP hS hB dX0_worthOf_36
    · have hE := ip c_3 hE
      exact wX0_worthOf_7_J14 z x2 hC y hE H locs cells slots ls hP hS hB (lv_sub hl [0, 2] rfl)
noncomputable def fX0_onOf_8 (V : XV) (z : XS) (x1 : Int32) (x2 : Int32) : Option (Int64 × XS) := (fX0_oddsAt V z x1 x2).bind fun r_1 => (fX0_worthOf_7 V r_1.2 x1 (x2 + (1 : Int32))).bind fun r_2 => some ((((10 : Int32) - r_1.1).toInt64 * r_2.1), r_2.2)
set_option maxHeartbeats 1000000 in
theorem wX0_onOf_8 {l : Launch} {E : XE} (z : XS) (x1 : Int32) (x2 : Int32) (y : Int64 × XS) (hE : fX0_onOf_8 E.2.2.2.2.2 z x1 x2 = some y) : xM l yX0_onOf (ws_ yX0_onOf cX0_onOf 3 (some .long)) rmX0_onOf_8 E z [.ref (E.2.2.1 0), .int x1, .int x2] (some (.long y.1)) y.2 := by
  refine x_met (own := RX0) (by decide) rfl (Nat.le_of_ble_eq_true rfl) (fun p e s m args below meth c hC => ?_)
  intro H locs cells slots ls hP hS hB hl
  have hx := hC.1
  have hb := hC.2.1
  have hown := hC.2.2.2.2.2.1
  have hts := hC.2.2.2.2.2.2.1
  have hl : lv_has ls 3 [(0, .ref (E.2.2.1 0)), (1, .int x1), (2, .int x2)] := hl
  unfold fX0_onOf_8 at hE
  refine lv_bipush (v := 10) hx hb dX0_onOf_0 (by decide) ?_
  refine lv_aload_n hx hb dX0_onOf_2 rfl (lv_at hl 0 rfl) ?_
  refine lv_iload_n hx hb dX0_onOf_3 rfl (lv_at hl 1 rfl) ?_
  refine lv_iload_n hx hb dX0_onOf_4 rfl (lv_at hl 2 rfl) ?_
  obtain ⟨r_1, h_1, hE⟩ := ob hE
  refine x_callV (rc1 := _) (rs1 := _) [.int x1, .int x2] (E.2.2.1 0) hC hP hS hB hl.1 (wX0_oddsAt z x1 x2 r_1 h_1) (xC.c0 hC) (xw_get E _ (k := 0) (by decide)) (cwV 2 hts lkX0_275 rfl rfl rfl cdX0_oddsAt ⟨Nat.le_of_ble_eq_true rfl, Nat.le_of_ble_eq_true rfl⟩) rfl rfl (lv_room (Nat.le_of_ble_eq_true rfl)) ⟨Nat.le_of_eq (Nat.zero_add _), Nat.le_of_eq (Nat.zero_add _)⟩ dX0_onOf_5 (fun H locs cells slots hP hS hB => ?_)
  show W p l e _ s m args below meth c H locs cells slots _ (F0 m _ ls (.int r_1.1 :: .int (10 : Int32) :: []))
  refine lv_isub hx hb dX0_onOf_8 ?_
  refine lv_i2l hx hb dX0_onOf_9 rfl ?_
  refine lv_aload_n hx hb dX0_onOf_10 rfl (lv_at hl 0 rfl) ?_
  refine lv_iload_n hx hb dX0_onOf_11 rfl (lv_at hl 1 rfl) ?_
  refine lv_iload_n hx hb dX0_onOf_12 rfl (lv_at hl 2 rfl) ?_
  refine lv_iconst (v := 1) hx hb dX0_onOf_13 (by decide) ?_
  refine lv_iadd hx hb dX0_onOf_14 ?_
  obtain ⟨r_2, h_2, hE⟩ := ob hE
  refine x_callV (rc1 := _) (rs1 := _) [.int x1, .int (x2 + (1 : Int32))] (E.2.2.1 0) hC hP hS hB hl.1 (wX0_worthOf_7 r_1.2 x1 (x2 + (1 : Int32)) r_2 h_2) (xC.c0 hC) (xw_get E _ (k := 0) (by decide)) (cwV 2 hts lkX0_303 rfl rfl rfl cdX0_worthOf ⟨Nat.le_of_ble_eq_true rfl, Nat.le_of_ble_eq_true rfl⟩) rfl rfl (lv_room (Nat.le_of_ble_eq_true rfl)) ⟨Nat.le_of_eq (Nat.zero_add _), Nat.le_of_eq (Nat.zero_add _)⟩ dX0_onOf_15 (fun H locs cells slots hP hS hB => ?_)
  show W p l e _ s m args below meth c H locs cells slots _ (F0 m _ ls (.long r_2.1 :: .long ((10 : Int32) - r_1.1).toInt64 :: []))
  refine lv_lmul hx hb dX0_onOf_18 ?_
  obtain rfl := Option.some.inj hE
  exact x_lret hC hP hS hB dX0_onOf_19
noncomputable def fX0_worthOf_8_J14 (V : XV) (z : XS) (x2 : Int32) : Option (Int64 × XS) := (fX0_stopsFor z x2).bind fun r_2 => some (r_2, z)
set_option maxHeartbeats 1000000 in
theorem wX0_worthOf_8_J14 {p : Program} {l : Launch} {e : Env} {s : State} {m : MethodId} {args : Array Value} {below : List Frame} {meth : Method} {c : Code} {E : XE} (z : XS) (x2 : Int32) (hC : xC E RX0 cX0_worthOf 3 (some .long) p s m args meth c) (y : Int64 × XS) (hE : fX0_worthOf_8_J14 E.2.2.2.2.2 z x2 = some y) : xW p l e rmX0_worthOf_8 s m args below meth c E 3 (xQ E rmX0_worthOf_8 below args s (some (.long y.1)) y.2) 0 0 14 [(0, .ref (E.2.2.1 0)), (2, .int x2)] [] z := by
  intro H locs cells slots ls hP hS hB hl
  have hx := hC.1
  have hb := hC.2.1
  have hown := hC.2.2.2.2.2.1
  have hts := hC.2.2.2.2.2.2.1
  unfold fX0_worthOf_8_J14 at hE
  refine lv_aload_n hx hb dX0_worthOf_14 rfl (lv_at hl 0 rfl) ?_
  refine lv_iload_n hx hb dX0_worthOf_15 rfl (lv_at hl 1 rfl) ?_
  obtain ⟨r_2, h_2, hE⟩ := ob hE
  refine x_callV (rc1 := _) (rs1 := _) [.int x2] (E.2.2.1 0) hC hP hS hB hl.1 (wX0_stopsFor z x2 r_2 h_2) (xC.c0 hC) (xw_get E _ (k := 0) (by decide)) (cwV 1 hts lkX0_306 rfl rfl rfl cdX0_stopsFor ⟨Nat.le_of_ble_eq_true rfl, Nat.le_of_ble_eq_true rfl⟩) rfl rfl (lv_room (Nat.le_of_ble_eq_true rfl)) ⟨Nat.le_of_eq (Nat.zero_add _), Nat.le_of_eq (Nat.zero_add _)⟩ dX0_worthOf_16 (fun H locs cells slots hP hS hB => ?_)
  show W p l e _ s m args below meth c H locs cells slots _ (F0 m _ ls (.long r_2 :: []))
  refine lv_goto (tgt := 36) hx hb dX0_worthOf_19 (by decide) ?_
  obtain rfl := Option.some.inj hE
  exact x_lret hC hP hS hB dX0_worthOf_36
noncomputable def fX0_worthOf_8 (V : XV) (z : XS) (x1 : Int32) (x2 : Int32) : Option (Int64 × XS) := if x2 = (12 : Int32) then ((fX0_worthOf_8_J14 V z x2)) else (if x2 = (z.1 9) then ((fX0_worthOf_8_J14 V z x2)) else ((fX0_stopsFor z x2).bind fun r_4 => (fX0_onOf_8 V z x1 x2).bind fun r_5 => some ((if r_5.1 < r_4 then r_4 else r_5.1), r_5.2)))
set_option maxHeartbeats 1000000 in
theorem wX0_worthOf_8 {l : Launch} {E : XE} (z : XS) (x1 : Int32) (x2 : Int32) (y : Int64 × XS) (hE : fX0_worthOf_8 E.2.2.2.2.2 z x1 x2 = some y) : xM l yX0_worthOf (ws_ yX0_worthOf cX0_worthOf 3 (some .long)) rmX0_worthOf_8 E z [.ref (E.2.2.1 0), .int x1, .int x2] (some (.long y.1)) y.2 := by
  refine x_met (own := RX0) (by decide) rfl (Nat.le_of_ble_eq_true rfl) (fun p e s m args below meth c hC => ?_)
  intro H locs cells slots ls hP hS hB hl
  have hx := hC.1
  have hb := hC.2.1
  have hown := hC.2.2.2.2.2.1
  have hts := hC.2.2.2.2.2.2.1
  have hl : lv_has ls 3 [(0, .ref (E.2.2.1 0)), (1, .int x1), (2, .int x2)] := hl
  unfold fX0_worthOf_8 at hE
  refine lv_iload_n hx hb dX0_worthOf_0 rfl (lv_at hl 2 rfl) ?_
  refine lv_bipush (v := 12) hx hb dX0_worthOf_1 (by decide) ?_
  refine lv_icmp_eq (tgt := 14) hx hb dX0_worthOf_3 (by decide) (fun c_1 => ?_) (fun c_1 => ?_)
  · have hE := ip c_1 hE
    exact wX0_worthOf_8_J14 z x2 hC y hE H locs cells slots ls hP hS hB (lv_sub hl [0, 2] rfl)
  · have hE := iq c_1 hE
    refine lv_iload_n hx hb dX0_worthOf_6 rfl (lv_at hl 2 rfl) ?_
    refine lv_aload_n hx hb dX0_worthOf_7 rfl (lv_at hl 0 rfl) ?_
    refine gX_272 hC hP dX0_worthOf_8 ?_
    refine lv_icmp_ne (tgt := 22) hx hb dX0_worthOf_11 (by decide) (fun c_3 => ?_) (fun c_3 => ?_)
    · have hE := iq c_3 hE
      refine lv_aload_n hx hb dX0_worthOf_22 rfl (lv_at hl 0 rfl) ?_
      refine lv_iload_n hx hb dX0_worthOf_23 rfl (lv_at hl 2 rfl) ?_
      obtain ⟨r_4, h_4, hE⟩ := ob hE
      refine x_callV (rc1 := _) (rs1 := _) [.int x2] (E.2.2.1 0) hC hP hS hB hl.1 (wX0_stopsFor z x2 r_4 h_4) (xC.c0 hC) (xw_get E _ (k := 0) (by decide)) (cwV 1 hts lkX0_306 rfl rfl rfl cdX0_stopsFor ⟨Nat.le_of_ble_eq_true rfl, Nat.le_of_ble_eq_true rfl⟩) rfl rfl (lv_room (Nat.le_of_ble_eq_true rfl)) ⟨Nat.le_of_eq (Nat.zero_add _), Nat.le_of_eq (Nat.zero_add _)⟩ dX0_worthOf_24 (fun H locs cells slots hP hS hB => ?_)
      show W p l e _ s m args below meth c H locs cells slots _ (F0 m _ ls (.long r_4 :: []))
      refine lv_aload_n hx hb dX0_worthOf_27 rfl (lv_at hl 0 rfl) ?_
      refine lv_iload_n hx hb dX0_worthOf_28 rfl (lv_at hl 1 rfl) ?_
      refine lv_iload_n hx hb dX0_worthOf_29 rfl (lv_at hl 2 rfl) ?_
      obtain ⟨r_5, h_5, hE⟩ := ob hE
      refine x_callV (rc1 := _) (rs1 := _) [.int x1, .int x2] (E.2.2.1 0) hC hP hS hB hl.1 (wX0_onOf_8 z x1 x2 r_5 h_5) (xC.c0 hC) (xw_get E _ (k := 0) (by decide)) (cwV 2 hts lkX0_310 rfl rfl rfl cdX0_onOf ⟨Nat.le_of_ble_eq_true rfl, Nat.le_of_ble_eq_true rfl⟩) rfl rfl (lv_room (Nat.le_of_ble_eq_true rfl)) ⟨Nat.le_of_eq (Nat.zero_add _), Nat.le_of_eq (Nat.zero_add _)⟩ dX0_worthOf_30 (fun H locs cells slots hP hS hB => ?_)
      show W p l e _ s m args below meth c H locs cells slots _ (F0 m _ ls (.long r_5.1 :: .long r_4 :: []))
      refine va_mmax_long hx hb (hC.2.2.2.2.1.trans hl.1.symm) hown (hts _ q1012) (hts _ q1006) (hts _ q135) (hts _ q1007) (Nat.le_of_ble_eq_true rfl) (Nat.le_of_ble_eq_true rfl) (Nat.le_trans (Nat.le_add_right _ _) hB.1) (Nat.le_trans (Nat.le_add_right _ _) hB.2) dX0_worthOf_33 ?_
      obtain rfl := Option.some.inj hE
      exact x_lret hC hP hS hB dX0_worthOf_36
    · have hE := ip c_3 hE
      exact wX0_worthOf_8_J14 z x2 hC y hE H locs cells slots ls hP hS hB (lv_sub hl [0, 2] rfl)
noncomputable def fX0_onOf_9 (V : XV) (z : XS) (x1 : Int32) (x2 : Int32) : Option (Int64 × XS) := (fX0_oddsAt V z x1 x2).bind fun r_1 => (fX0_worthOf_8 V r_1.2 x1 (x2 + (1 : Int32))).bind fun r_2 => some ((((10 : Int32) - r_1.1).toInt64 * r_2.1), r_2.2)
set_option maxHeartbeats 1000000 in
theorem wX0_onOf_9 {l : Launch} {E : XE} (z : XS) (x1 : Int32) (x2 : Int32) (y : Int64 × XS) (hE : fX0_onOf_9 E.2.2.2.2.2 z x1 x2 = some y) : xM l yX0_onOf (ws_ yX0_onOf cX0_onOf 3 (some .long)) rmX0_onOf_9 E z [.ref (E.2.2.1 0), .int x1, .int x2] (some (.long y.1)) y.2 := by
  refine x_met (own := RX0) (by decide) rfl (Nat.le_of_ble_eq_true rfl) (fun p e s m args below meth c hC => ?_)
  intro H locs cells slots ls hP hS hB hl
  have hx := hC.1
  have hb := hC.2.1
  have hown := hC.2.2.2.2.2.1
  have hts := hC.2.2.2.2.2.2.1
  have hl : lv_has ls 3 [(0, .ref (E.2.2.1 0)), (1, .int x1), (2, .int x2)] := hl
  unfold fX0_onOf_9 at hE
  refine lv_bipush (v := 10) hx hb dX0_onOf_0 (by decide) ?_
  refine lv_aload_n hx hb dX0_onOf_2 rfl (lv_at hl 0 rfl) ?_
  refine lv_iload_n hx hb dX0_onOf_3 rfl (lv_at hl 1 rfl) ?_
  refine lv_iload_n hx hb dX0_onOf_4 rfl (lv_at hl 2 rfl) ?_
  obtain ⟨r_1, h_1, hE⟩ := ob hE
  refine x_callV (rc1 := _) (rs1 := _) [.int x1, .int x2] (E.2.2.1 0) hC hP hS hB hl.1 (wX0_oddsAt z x1 x2 r_1 h_1) (xC.c0 hC) (xw_get E _ (k := 0) (by decide)) (cwV 2 hts lkX0_275 rfl rfl rfl cdX0_oddsAt ⟨Nat.le_of_ble_eq_true rfl, Nat.le_of_ble_eq_true rfl⟩) rfl rfl (lv_room (Nat.le_of_ble_eq_true rfl)) ⟨Nat.le_of_eq (Nat.zero_add _), Nat.le_of_eq (Nat.zero_add _)⟩ dX0_onOf_5 (fun H locs cells slots hP hS hB => ?_)
  show W p l e _ s m args below meth c H locs cells slots _ (F0 m _ ls (.int r_1.1 :: .int (10 : Int32) :: []))
  refine lv_isub hx hb dX0_onOf_8 ?_
  refine lv_i2l hx hb dX0_onOf_9 rfl ?_
  refine lv_aload_n hx hb dX0_onOf_10 rfl (lv_at hl 0 rfl) ?_
  refine lv_iload_n hx hb dX0_onOf_11 rfl (lv_at hl 1 rfl) ?_
  refine lv_iload_n hx hb dX0_onOf_12 rfl (lv_at hl 2 rfl) ?_
  refine lv_iconst (v := 1) hx hb dX0_onOf_13 (by decide) ?_
  refine lv_iadd hx hb dX0_onOf_14 ?_
  obtain ⟨r_2, h_2, hE⟩ := ob hE
  refine x_callV (rc1 := _) (rs1 := _) [.int x1, .int (x2 + (1 : Int32))] (E.2.2.1 0) hC hP hS hB hl.1 (wX0_worthOf_8 r_1.2 x1 (x2 + (1 : Int32)) r_2 h_2) (xC.c0 hC) (xw_get E _ (k := 0) (by decide)) (cwV 2 hts lkX0_303 rfl rfl rfl cdX0_worthOf ⟨Nat.le_of_ble_eq_true rfl, Nat.le_of_ble_eq_true rfl⟩) rfl rfl (lv_room (Nat.le_of_ble_eq_true rfl)) ⟨Nat.le_of_eq (Nat.zero_add _), Nat.le_of_eq (Nat.zero_add _)⟩ dX0_onOf_15 (fun H locs cells slots hP hS hB => ?_)
  show W p l e _ s m args below meth c H locs cells slots _ (F0 m _ ls (.long r_2.1 :: .long ((10 : Int32) - r_1.1).toInt64 :: []))
  refine lv_lmul hx hb dX0_onOf_18 ?_
  obtain rfl := Option.some.inj hE
  exact x_lret hC hP hS hB dX0_onOf_19
noncomputable def fX0_worthOf_9_J14 (V : XV) (z : XS) (x2 : Int32) : Option (Int64 × XS) := (fX0_stopsFor z x2).bind fun r_2 => some (r_2, z)
set_option maxHeartbeats 1000000 in
theorem wX0_worthOf_9_J14 {p : Program} {l : Launch} {e : Env} {s : State} {m : MethodId} {args : Array Value} {below : List Frame} {meth : Method} {c : Code} {E : XE} (z : XS) (x2 : Int32) (hC : xC E RX0 cX0_worthOf 3 (some .long) p s m args meth c) (y : Int64 × XS) (hE : fX0_worthOf_9_J14 E.2.2.2.2.2 z x2 = some y) : xW p l e rmX0_worthOf_9 s m args below meth c E 3 (xQ E rmX0_worthOf_9 below args s (some (.long y.1)) y.2) 0 0 14 [(0, .ref (E.2.2.1 0)), (2, .int x2)] [] z := by
  intro H locs cells slots ls hP hS hB hl
  have hx := hC.1
  have hb := hC.2.1
  have hown := hC.2.2.2.2.2.1
  have hts := hC.2.2.2.2.2.2.1
  unfold fX0_worthOf_9_J14 at hE
  refine lv_aload_n hx hb dX0_worthOf_14 rfl (lv_at hl 0 rfl) ?_
  refine lv_iload_n hx hb dX0_worthOf_15 rfl (lv_at hl 1 rfl) ?_
  obtain ⟨r_2, h_2, hE⟩ := ob hE
  refine x_callV (rc1 := _) (rs1 := _) [.int x2] (E.2.2.1 0) hC hP hS hB hl.1 (wX0_stopsFor z x2 r_2 h_2) (xC.c0 hC) (xw_get E _ (k := 0) (by decide)) (cwV 1 hts lkX0_306 rfl rfl rfl cdX0_stopsFor ⟨Nat.le_of_ble_eq_true rfl, Nat.le_of_ble_eq_true rfl⟩) rfl rfl (lv_room (Nat.le_of_ble_eq_true rfl)) ⟨Nat.le_of_eq (Nat.zero_add _), Nat.le_of_eq (Nat.zero_add _)⟩ dX0_worthOf_16 (fun H locs cells slots hP hS hB => ?_)
  show W p l e _ s m args below meth c H locs cells slots _ (F0 m _ ls (.long r_2 :: []))
  refine lv_goto (tgt := 36) hx hb dX0_worthOf_19 (by decide) ?_
  obtain rfl := Option.some.inj hE
  exact x_lret hC hP hS hB dX0_worthOf_36
noncomputable def fX0_worthOf_9 (V : XV) (z : XS) (x1 : Int32) (x2 : Int32) : Option (Int64 × XS) := if x2 = (12 : Int32) then ((fX0_worthOf_9_J14 V z x2)) else (if x2 = (z.1 9) then ((fX0_worthOf_9_J14 V z x2)) else ((fX0_stopsFor z x2).bind fun r_4 => (fX0_onOf_9 V z x1 x2).bind fun r_5 => some ((if r_5.1 < r_4 then r_4 else r_5.1), r_5.2)))
set_option maxHeartbeats 1000000 in
theorem wX0_worthOf_9 {l : Launch} {E : XE} (z : XS) (x1 : Int32) (x2 : Int32) (y : Int64 × XS) (hE : fX0_worthOf_9 E.2.2.2.2.2 z x1 x2 = some y) : xM l yX0_worthOf (ws_ yX0_worthOf cX0_worthOf 3 (some .long)) rmX0_worthOf_9 E z [.ref (E.2.2.1 0), .int x1, .int x2] (some (.long y.1)) y.2 := by
  refine x_met (own := RX0) (by decide) rfl (Nat.le_of_ble_eq_true rfl) (fun p e s m args below meth c hC => ?_)
  intro H locs cells slots ls hP hS hB hl
  have hx := hC.1
  have hb := hC.2.1
  have hown := hC.2.2.2.2.2.1
  have hts := hC.2.2.2.2.2.2.1
  have hl : lv_has ls 3 [(0, .ref (E.2.2.1 0)), (1, .int x1), (2, .int x2)] := hl
  unfold fX0_worthOf_9 at hE
  refine lv_iload_n hx hb dX0_worthOf_0 rfl (lv_at hl 2 rfl) ?_
  refine lv_bipush (v := 12) hx hb dX0_worthOf_1 (by decide) ?_
  refine lv_icmp_eq (tgt := 14) hx hb dX0_worthOf_3 (by decide) (fun c_1 => ?_) (fun c_1 => ?_)
  · have hE := ip c_1 hE
    exact wX0_worthOf_9_J14 z x2 hC y hE H locs cells slots ls hP hS hB (lv_sub hl [0, 2] rfl)
  · have hE := iq c_1 hE
    refine lv_iload_n hx hb dX0_worthOf_6 rfl (lv_at hl 2 rfl) ?_
    refine lv_aload_n hx hb dX0_worthOf_7 rfl (lv_at hl 0 rfl) ?_
    refine gX_272 hC hP dX0_worthOf_8 ?_
    refine lv_icmp_ne (tgt := 22) hx hb dX0_worthOf_11 (by decide) (fun c_3 => ?_) (fun c_3 => ?_)
    · have hE := iq c_3 hE
      refine lv_aload_n hx hb dX0_worthOf_22 rfl (lv_at hl 0 rfl) ?_
      refine lv_iload_n hx hb dX0_worthOf_23 rfl (lv_at hl 2 rfl) ?_
      obtain ⟨r_4, h_4, hE⟩ := ob hE
      refine x_callV (rc1 := _) (rs1 := _) [.int x2] (E.2.2.1 0) hC hP hS hB hl.1 (wX0_stopsFor z x2 r_4 h_4) (xC.c0 hC) (xw_get E _ (k := 0) (by decide)) (cwV 1 hts lkX0_306 rfl rfl rfl cdX0_stopsFor ⟨Nat.le_of_ble_eq_true rfl, Nat.le_of_ble_eq_true rfl⟩) rfl rfl (lv_room (Nat.le_of_ble_eq_true rfl)) ⟨Nat.le_of_eq (Nat.zero_add _), Nat.le_of_eq (Nat.zero_add _)⟩ dX0_worthOf_24 (fun H locs cells slots hP hS hB => ?_)
      show W p l e _ s m args below meth c H locs cells slots _ (F0 m _ ls (.long r_4 :: []))
      refine lv_aload_n hx hb dX0_worthOf_27 rfl (lv_at hl 0 rfl) ?_
      refine lv_iload_n hx hb dX0_worthOf_28 rfl (lv_at hl 1 rfl) ?_
      refine lv_iload_n hx hb dX0_worthOf_29 rfl (lv_at hl 2 rfl) ?_
      obtain ⟨r_5, h_5, hE⟩ := ob hE
      refine x_callV (rc1 := _) (rs1 := _) [.int x1, .int x2] (E.2.2.1 0) hC hP hS hB hl.1 (wX0_onOf_9 z x1 x2 r_5 h_5) (xC.c0 hC) (xw_get E _ (k := 0) (by decide)) (cwV 2 hts lkX0_310 rfl rfl rfl cdX0_onOf ⟨Nat.le_of_ble_eq_true rfl, Nat.le_of_ble_eq_true rfl⟩) rfl rfl (lv_room (Nat.le_of_ble_eq_true rfl)) ⟨Nat.le_of_eq (Nat.zero_add _), Nat.le_of_eq (Nat.zero_add _)⟩ dX0_worthOf_30 (fun H locs cells slots hP hS hB => ?_)
      show W p l e _ s m args below meth c H locs cells slots _ (F0 m _ ls (.long r_5.1 :: .long r_4 :: []))
      refine va_mmax_long hx hb (hC.2.2.2.2.1.trans hl.1.symm) hown (hts _ q1012) (hts _ q1006) (hts _ q135) (hts _ q1007) (Nat.le_of_ble_eq_true rfl) (Nat.le_of_ble_eq_true rfl) (Nat.le_trans (Nat.le_add_right _ _) hB.1) (Nat.le_trans (Nat.le_add_right _ _) hB.2) dX0_worthOf_33 ?_
      obtain rfl := Option.some.inj hE
      exact x_lret hC hP hS hB dX0_worthOf_36
    · have hE := ip c_3 hE
      exact wX0_worthOf_9_J14 z x2 hC y hE H locs cells slots ls hP hS hB (lv_sub hl [0, 2] rfl)
noncomputable def fX0_onOf_10 (V : XV) (z : XS) (x1 : Int32) (x2 : Int32) : Option (Int64 × XS) := (fX0_oddsAt V z x1 x2).bind fun r_1 => (fX0_worthOf_9 V r_1.2 x1 (x2 + (1 : Int32))).bind fun r_2 => some ((((10 : Int32) - r_1.1).toInt64 * r_2.1), r_2.2)
set_option maxHeartbeats 1000000 in
theorem wX0_onOf_10 {l : Launch} {E : XE} (z : XS) (x1 : Int32) (x2 : Int32) (y : Int64 × XS) (hE : fX0_onOf_10 E.2.2.2.2.2 z x1 x2 = some y) : xM l yX0_onOf (ws_ yX0_onOf cX0_onOf 3 (some .long)) rmX0_onOf_10 E z [.ref (E.2.2.1 0), .int x1, .int x2] (some (.long y.1)) y.2 := by
  refine x_met (own := RX0) (by decide) rfl (Nat.le_of_ble_eq_true rfl) (fun p e s m args below meth c hC => ?_)
  intro H locs cells slots ls hP hS hB hl
  have hx := hC.1
  have hb := hC.2.1
  have hown := hC.2.2.2.2.2.1
  have hts := hC.2.2.2.2.2.2.1
  have hl : lv_has ls 3 [(0, .ref (E.2.2.1 0)), (1, .int x1), (2, .int x2)] := hl
  unfold fX0_onOf_10 at hE
  refine lv_bipush (v := 10) hx hb dX0_onOf_0 (by decide) ?_
  refine lv_aload_n hx hb dX0_onOf_2 rfl (lv_at hl 0 rfl) ?_
  refine lv_iload_n hx hb dX0_onOf_3 rfl (lv_at hl 1 rfl) ?_
  refine lv_iload_n hx hb dX0_onOf_4 rfl (lv_at hl 2 rfl) ?_
  obtain ⟨r_1, h_1, hE⟩ := ob hE
  refine x_callV (rc1 := _) (rs1 := _) [.int x1, .int x2] (E.2.2.1 0) hC hP hS hB hl.1 (wX0_oddsAt z x1 x2 r_1 h_1) (xC.c0 hC) (xw_get E _ (k := 0) (by decide)) (cwV 2 hts lkX0_275 rfl rfl rfl cdX0_oddsAt ⟨Nat.le_of_ble_eq_true rfl, Nat.le_of_ble_eq_true rfl⟩) rfl rfl (lv_room (Nat.le_of_ble_eq_true rfl)) ⟨Nat.le_of_eq (Nat.zero_add _), Nat.le_of_eq (Nat.zero_add _)⟩ dX0_onOf_5 (fun H locs cells slots hP hS hB => ?_)
  show W p l e _ s m args below meth c H locs cells slots _ (F0 m _ ls (.int r_1.1 :: .int (10 : Int32) :: []))
  refine lv_isub hx hb dX0_onOf_8 ?_
  refine lv_i2l hx hb dX0_onOf_9 rfl ?_
  refine lv_aload_n hx hb dX0_onOf_10 rfl (lv_at hl 0 rfl) ?_
  refine lv_iload_n hx hb dX0_onOf_11 rfl (lv_at hl 1 rfl) ?_
  refine lv_iload_n hx hb dX0_onOf_12 rfl (lv_at hl 2 rfl) ?_
  refine lv_iconst (v := 1) hx hb dX0_onOf_13 (by decide) ?_
  refine lv_iadd hx hb dX0_onOf_14 ?_
  obtain ⟨r_2, h_2, hE⟩ := ob hE
  refine x_callV (rc1 := _) (rs1 := _) [.int x1, .int (x2 + (1 : Int32))] (E.2.2.1 0) hC hP hS hB hl.1 (wX0_worthOf_9 r_1.2 x1 (x2 + (1 : Int32)) r_2 h_2) (xC.c0 hC) (xw_get E _ (k := 0) (by decide)) (cwV 2 hts lkX0_303 rfl rfl rfl cdX0_worthOf ⟨Nat.le_of_ble_eq_true rfl, Nat.le_of_ble_eq_true rfl⟩) rfl rfl (lv_room (Nat.le_of_ble_eq_true rfl)) ⟨Nat.le_of_eq (Nat.zero_add _), Nat.le_of_eq (Nat.zero_add _)⟩ dX0_onOf_15 (fun H locs cells slots hP hS hB => ?_)
  show W p l e _ s m args below meth c H locs cells slots _ (F0 m _ ls (.long r_2.1 :: .long ((10 : Int32) - r_1.1).toInt64 :: []))
  refine lv_lmul hx hb dX0_onOf_18 ?_
  obtain rfl := Option.some.inj hE
  exact x_lret hC hP hS hB dX0_onOf_19
noncomputable def fX0_worthOf_10_J14 (V : XV) (z : XS) (x2 : Int32) : Option (Int64 × XS) := (fX0_stopsFor z x2).bind fun r_2 => some (r_2, z)
set_option maxHeartbeats 1000000 in
theorem wX0_worthOf_10_J14 {p : Program} {l : Launch} {e : Env} {s : State} {m : MethodId} {args : Array Value} {below : List Frame} {meth : Method} {c : Code} {E : XE} (z : XS) (x2 : Int32) (hC : xC E RX0 cX0_worthOf 3 (some .long) p s m args meth c) (y : Int64 × XS) (hE : fX0_worthOf_10_J14 E.2.2.2.2.2 z x2 = some y) : xW p l e rmX0_worthOf_10 s m args below meth c E 3 (xQ E rmX0_worthOf_10 below args s (some (.long y.1)) y.2) 0 0 14 [(0, .ref (E.2.2.1 0)), (2, .int x2)] [] z := by
  intro H locs cells slots ls hP hS hB hl
  have hx := hC.1
  have hb := hC.2.1
  have hown := hC.2.2.2.2.2.1
  have hts := hC.2.2.2.2.2.2.1
  unfold fX0_worthOf_10_J14 at hE
  refine lv_aload_n hx hb dX0_worthOf_14 rfl (lv_at hl 0 rfl) ?_
  refine lv_iload_n hx hb dX0_worthOf_15 rfl (lv_at hl 1 rfl) ?_
  obtain ⟨r_2, h_2, hE⟩ := ob hE
  refine x_callV (rc1 := _) (rs1 := _) [.int x2] (E.2.2.1 0) hC hP hS hB hl.1 (wX0_stopsFor z x2 r_2 h_2) (xC.c0 hC) (xw_get E _ (k := 0) (by decide)) (cwV 1 hts lkX0_306 rfl rfl rfl cdX0_stopsFor ⟨Nat.le_of_ble_eq_true rfl, Nat.le_of_ble_eq_true rfl⟩) rfl rfl (lv_room (Nat.le_of_ble_eq_true rfl)) ⟨Nat.le_of_eq (Nat.zero_add _), Nat.le_of_eq (Nat.zero_add _)⟩ dX0_worthOf_16 (fun H locs cells slots hP hS hB => ?_)
  show W p l e _ s m args below meth c H locs cells slots _ (F0 m _ ls (.long r_2 :: []))
  refine lv_goto (tgt := 36) hx hb dX0_worthOf_19 (by decide) ?_
  obtain rfl := Option.some.inj hE
  exact x_lret hC hP hS hB dX0_worthOf_36
noncomputable def fX0_worthOf_10 (V : XV) (z : XS) (x1 : Int32) (x2 : Int32) : Option (Int64 × XS) := if x2 = (12 : Int32) then ((fX0_worthOf_10_J14 V z x2)) else (if x2 = (z.1 9) then ((fX0_worthOf_10_J14 V z x2)) else ((fX0_stopsFor z x2).bind fun r_4 => (fX0_onOf_10 V z x1 x2).bind fun r_5 => some ((if r_5.1 < r_4 then r_4 else r_5.1), r_5.2)))
set_option maxHeartbeats 1000000 in
theorem wX0_worthOf_10 {l : Launch} {E : XE} (z : XS) (x1 : Int32) (x2 : Int32) (y : Int64 × XS) (hE : fX0_worthOf_10 E.2.2.2.2.2 z x1 x2 = some y) : xM l yX0_worthOf (ws_ yX0_worthOf cX0_worthOf 3 (some .long)) rmX0_worthOf_10 E z [.ref (E.2.2.1 0), .int x1, .int x2] (some (.long y.1)) y.2 := by
  refine x_met (own := RX0) (by decide) rfl (Nat.le_of_ble_eq_true rfl) (fun p e s m args below meth c hC => ?_)
  intro H locs cells slots ls hP hS hB hl
  have hx := hC.1
  have hb := hC.2.1
  have hown := hC.2.2.2.2.2.1
  have hts := hC.2.2.2.2.2.2.1
  have hl : lv_has ls 3 [(0, .ref (E.2.2.1 0)), (1, .int x1), (2, .int x2)] := hl
  unfold fX0_worthOf_10 at hE
  refine lv_iload_n hx hb dX0_worthOf_0 rfl (lv_at hl 2 rfl) ?_
  refine lv_bipush (v := 12) hx hb dX0_worthOf_1 (by decide) ?_
  refine lv_icmp_eq (tgt := 14) hx hb dX0_worthOf_3 (by decide) (fun c_1 => ?_) (fun c_1 => ?_)
  · have hE := ip c_1 hE
    exact wX0_worthOf_10_J14 z x2 hC y hE H locs cells slots ls hP hS hB (lv_sub hl [0, 2] rfl)
  · have hE := iq c_1 hE
    refine lv_iload_n hx hb dX0_worthOf_6 rfl (lv_at hl 2 rfl) ?_
    refine lv_aload_n hx hb dX0_worthOf_7 rfl (lv_at hl 0 rfl) ?_
    refine gX_272 hC hP dX0_worthOf_8 ?_
    refine lv_icmp_ne (tgt := 22) hx hb dX0_worthOf_11 (by decide) (fun c_3 => ?_) (fun c_3 => ?_)
    · have hE := iq c_3 hE
      refine lv_aload_n hx hb dX0_worthOf_22 rfl (lv_at hl 0 rfl) ?_
      refine lv_iload_n hx hb dX0_worthOf_23 rfl (lv_at hl 2 rfl) ?_
      obtain ⟨r_4, h_4, hE⟩ := ob hE
      refine x_callV (rc1 := _) (rs1 := _) [.int x2] (E.2.2.1 0) hC hP hS hB hl.1 (wX0_stopsFor z x2 r_4 h_4) (xC.c0 hC) (xw_get E _ (k := 0) (by decide)) (cwV 1 hts lkX0_306 rfl rfl rfl cdX0_stopsFor ⟨Nat.le_of_ble_eq_true rfl, Nat.le_of_ble_eq_true rfl⟩) rfl rfl (lv_room (Nat.le_of_ble_eq_true rfl)) ⟨Nat.le_of_eq (Nat.zero_add _), Nat.le_of_eq (Nat.zero_add _)⟩ dX0_worthOf_24 (fun H locs cells slots hP hS hB => ?_)
      show W p l e _ s m args below meth c H locs cells slots _ (F0 m _ ls (.long r_4 :: []))
      refine lv_aload_n hx hb dX0_worthOf_27 rfl (lv_at hl 0 rfl) ?_
      refine lv_iload_n hx hb dX0_worthOf_28 rfl (lv_at hl 1 rfl) ?_
      refine lv_iload_n hx hb dX0_worthOf_29 rfl (lv_at hl 2 rfl) ?_
      obtain ⟨r_5, h_5, hE⟩ := ob hE
      refine x_callV (rc1 := _) (rs1 := _) [.int x1, .int x2] (E.2.2.1 0) hC hP hS hB hl.1 (wX0_onOf_10 z x1 x2 r_5 h_5) (xC.c0 hC) (xw_get E _ (k := 0) (by decide)) (cwV 2 hts lkX0_310 rfl rfl rfl cdX0_onOf ⟨Nat.le_of_ble_eq_true rfl, Nat.le_of_ble_eq_true rfl⟩) rfl rfl (lv_room (Nat.le_of_ble_eq_true rfl)) ⟨Nat.le_of_eq (Nat.zero_add _), Nat.le_of_eq (Nat.zero_add _)⟩ dX0_worthOf_30 (fun H locs cells slots hP hS hB => ?_)
      show W p l e _ s m args below meth c H locs cells slots _ (F0 m _ ls (.long r_5.1 :: .long r_4 :: []))
      refine va_mmax_long hx hb (hC.2.2.2.2.1.trans hl.1.symm) hown (hts _ q1012) (hts _ q1006) (hts _ q135) (hts _ q1007) (Nat.le_of_ble_eq_true rfl) (Nat.le_of_ble_eq_true rfl) (Nat.le_trans (Nat.le_add_right _ _) hB.1) (Nat.le_trans (Nat.le_add_right _ _) hB.2) dX0_worthOf_33 ?_
      obtain rfl := Option.some.inj hE
      exact x_lret hC hP hS hB dX0_worthOf_36
    · have hE := ip c_3 hE
      exact wX0_worthOf_10_J14 z x2 hC y hE H locs cells slots ls hP hS hB (lv_sub hl [0, 2] rfl)
noncomputable def fX0_onOf_11 (V : XV) (z : XS) (x1 : Int32) (x2 : Int32) : Option (Int64 × XS) := (fX0_oddsAt V z x1 x2).bind fun r_1 => (fX0_worthOf_10 V r_1.2 x1 (x2 + (1 : Int32))).bind fun r_2 => some ((((10 : Int32) - r_1.1).toInt64 * r_2.1), r_2.2)
set_option maxHeartbeats 1000000 in
theorem wX0_onOf_11 {l : Launch} {E : XE} (z : XS) (x1 : Int32) (x2 : Int32) (y : Int64 × XS) (hE : fX0_onOf_11 E.2.2.2.2.2 z x1 x2 = some y) : xM l yX0_onOf (ws_ yX0_onOf cX0_onOf 3 (some .long)) rmX0_onOf_11 E z [.ref (E.2.2.1 0), .int x1, .int x2] (some (.long y.1)) y.2 := by
  refine x_met (own := RX0) (by decide) rfl (Nat.le_of_ble_eq_true rfl) (fun p e s m args below meth c hC => ?_)
  intro H locs cells slots ls hP hS hB hl
  have hx := hC.1
  have hb := hC.2.1
  have hown := hC.2.2.2.2.2.1
  have hts := hC.2.2.2.2.2.2.1
  have hl : lv_has ls 3 [(0, .ref (E.2.2.1 0)), (1, .int x1), (2, .int x2)] := hl
  unfold fX0_onOf_11 at hE
  refine lv_bipush (v := 10) hx hb dX0_onOf_0 (by decide) ?_
  refine lv_aload_n hx hb dX0_onOf_2 rfl (lv_at hl 0 rfl) ?_
  refine lv_iload_n hx hb dX0_onOf_3 rfl (lv_at hl 1 rfl) ?_
  refine lv_iload_n hx hb dX0_onOf_4 rfl (lv_at hl 2 rfl) ?_
  obtain ⟨r_1, h_1, hE⟩ := ob hE
  refine x_callV (rc1 := _) (rs1 := _) [.int x1, .int x2] (E.2.2.1 0) hC hP hS hB hl.1 (wX0_oddsAt z x1 x2 r_1 h_1) (xC.c0 hC) (xw_get E _ (k := 0) (by decide)) (cwV 2 hts lkX0_275 rfl rfl rfl cdX0_oddsAt ⟨Nat.le_of_ble_eq_true rfl, Nat.le_of_ble_eq_true rfl⟩) rfl rfl (lv_room (Nat.le_of_ble_eq_true rfl)) ⟨Nat.le_of_eq (Nat.zero_add _), Nat.le_of_eq (Nat.zero_add _)⟩ dX0_onOf_5 (fun H locs cells slots hP hS hB => ?_)
  show W p l e _ s m args below meth c H locs cells slots _ (F0 m _ ls (.int r_1.1 :: .int (10 : Int32) :: []))
  refine lv_isub hx hb dX0_onOf_8 ?_
  refine lv_i2l hx hb dX0_onOf_9 rfl ?_
  refine lv_aload_n hx hb dX0_onOf_10 rfl (lv_at hl 0 rfl) ?_
  refine lv_iload_n hx hb dX0_onOf_11 rfl (lv_at hl 1 rfl) ?_
  refine lv_iload_n hx hb dX0_onOf_12 rfl (lv_at hl 2 rfl) ?_
  refine lv_iconst (v := 1) hx hb dX0_onOf_13 (by decide) ?_
  refine lv_iadd hx hb dX0_onOf_14 ?_
  obtain ⟨r_2, h_2, hE⟩ := ob hE
  refine x_callV (rc1 := _) (rs1 := _) [.int x1, .int (x2 + (1 : Int32))] (E.2.2.1 0) hC hP hS hB hl.1 (wX0_worthOf_10 r_1.2 x1 (x2 + (1 : Int32)) r_2 h_2) (xC.c0 hC) (xw_get E _ (k := 0) (by decide)) (cwV 2 hts lkX0_303 rfl rfl rfl cdX0_worthOf ⟨Nat.le_of_ble_eq_true rfl, Nat.le_of_ble_eq_true rfl⟩) rfl rfl (lv_room (Nat.le_of_ble_eq_true rfl)) ⟨Nat.le_of_eq (Nat.zero_add _), Nat.le_of_eq (Nat.zero_add _)⟩ dX0_onOf_15 (fun H locs cells slots hP hS hB => ?_)
  show W p l e _ s m args below meth c H locs cells slots _ (F0 m _ ls (.long r_2.1 :: .long ((10 : Int32) - r_1.1).toInt64 :: []))
  refine lv_lmul hx hb dX0_onOf_18 ?_
  obtain rfl := Option.some.inj hE
  exact x_lret hC hP hS hB dX0_onOf_19
noncomputable def fX0_worthOf_11_J14 (V : XV) (z : XS) (x2 : Int32) : Option (Int64 × XS) := (fX0_stopsFor z x2).bind fun r_2 => some (r_2, z)
set_option maxHeartbeats 1000000 in
theorem wX0_worthOf_11_J14 {p : Program} {l : Launch} {e : Env} {s : State} {m : MethodId} {args : Array Value} {below : List Frame} {meth : Method} {c : Code} {E : XE} (z : XS) (x2 : Int32) (hC : xC E RX0 cX0_worthOf 3 (some .long) p s m args meth c) (y : Int64 × XS) (hE : fX0_worthOf_11_J14 E.2.2.2.2.2 z x2 = some y) : xW p l e rmX0_worthOf_11 s m args below meth c E 3 (xQ E rmX0_worthOf_11 below args s (some (.long y.1)) y.2) 0 0 14 [(0, .ref (E.2.2.1 0)), (2, .int x2)] [] z := by
  intro H locs cells slots ls hP hS hB hl
  have hx := hC.1
  have hb := hC.2.1
  have hown := hC.2.2.2.2.2.1
  have hts := hC.2.2.2.2.2.2.1
  unfold fX0_worthOf_11_J14 at hE
  refine lv_aload_n hx hb dX0_worthOf_14 rfl (lv_at hl 0 rfl) ?_
  refine lv_iload_n hx hb dX0_worthOf_15 rfl (lv_at hl 1 rfl) ?_
  obtain ⟨r_2, h_2, hE⟩ := ob hE
  refine x_callV (rc1 := _) (rs1 := _) [.int x2] (E.2.2.1 0) hC hP hS hB hl.1 (wX0_stopsFor z x2 r_2 h_2) (xC.c0 hC) (xw_get E _ (k := 0) (by decide)) (cwV 1 hts lkX0_306 rfl rfl rfl cdX0_stopsFor ⟨Nat.le_of_ble_eq_true rfl, Nat.le_of_ble_eq_true rfl⟩) rfl rfl (lv_room (Nat.le_of_ble_eq_true rfl)) ⟨Nat.le_of_eq (Nat.zero_add _), Nat.le_of_eq (Nat.zero_add _)⟩ dX0_worthOf_16 (fun H locs cells slots hP hS hB => ?_)
  show W p l e _ s m args below meth c H locs cells slots _ (F0 m _ ls (.long r_2 :: []))
  refine lv_goto (tgt := 36) hx hb dX0_worthOf_19 (by decide) ?_
  obtain rfl := Option.some.inj hE
  exact x_lret hC hP hS hB dX0_worthOf_36
noncomputable def fX0_worthOf_11 (V : XV) (z : XS) (x1 : Int32) (x2 : Int32) : Option (Int64 × XS) := if x2 = (12 : Int32) then ((fX0_worthOf_11_J14 V z x2)) else (if x2 = (z.1 9) then ((fX0_worthOf_11_J14 V z x2)) else ((fX0_stopsFor z x2).bind fun r_4 => (fX0_onOf_11 V z x1 x2).bind fun r_5 => some ((if r_5.1 < r_4 then r_4 else r_5.1), r_5.2)))
set_option maxHeartbeats 1000000 in
theorem wX0_worthOf_11 {l : Launch} {E : XE} (z : XS) (x1 : Int32) (x2 : Int32) (y : Int64 × XS) (hE : fX0_worthOf_11 E.2.2.2.2.2 z x1 x2 = some y) : xM l yX0_worthOf (ws_ yX0_worthOf cX0_worthOf 3 (some .long)) rmX0_worthOf_11 E z [.ref (E.2.2.1 0), .int x1, .int x2] (some (.long y.1)) y.2 := by
  refine x_met (own := RX0) (by decide) rfl (Nat.le_of_ble_eq_true rfl) (fun p e s m args below meth c hC => ?_)
  intro H locs cells slots ls hP hS hB hl
  have hx := hC.1
  have hb := hC.2.1
  have hown := hC.2.2.2.2.2.1
  have hts := hC.2.2.2.2.2.2.1
  have hl : lv_has ls 3 [(0, .ref (E.2.2.1 0)), (1, .int x1), (2, .int x2)] := hl
  unfold fX0_worthOf_11 at hE
  refine lv_iload_n hx hb dX0_worthOf_0 rfl (lv_at hl 2 rfl) ?_
  refine lv_bipush (v := 12) hx hb dX0_worthOf_1 (by decide) ?_
  refine lv_icmp_eq (tgt := 14) hx hb dX0_worthOf_3 (by decide) (fun c_1 => ?_) (fun c_1 => ?_)
  · have hE := ip c_1 hE
    exact wX0_worthOf_11_J14 z x2 hC y hE H locs cells slots ls hP hS hB (lv_sub hl [0, 2] rfl)
  · have hE := iq c_1 hE
    refine lv_iload_n hx hb dX0_worthOf_6 rfl (lv_at hl 2 rfl) ?_
    refine lv_aload_n hx hb dX0_worthOf_7 rfl (lv_at hl 0 rfl) ?_
    refine gX_272 hC hP dX0_worthOf_8 ?_
    refine lv_icmp_ne (tgt := 22) hx hb dX0_worthOf_11 (by decide) (fun c_3 => ?_) (fun c_3 => ?_)
    · have hE := iq c_3 hE
      refine lv_aload_n hx hb dX0_worthOf_22 rfl (lv_at hl 0 rfl) ?_
      refine lv_iload_n hx hb dX0_worthOf_23 rfl (lv_at hl 2 rfl) ?_
      obtain ⟨r_4, h_4, hE⟩ := ob hE
      refine x_callV (rc1 := _) (rs1 := _) [.int x2] (E.2.2.1 0) hC hP hS hB hl.1 (wX0_stopsFor z x2 r_4 h_4) (xC.c0 hC) (xw_get E _ (k := 0) (by decide)) (cwV 1 hts lkX0_306 rfl rfl rfl cdX0_stopsFor ⟨Nat.le_of_ble_eq_true rfl, Nat.le_of_ble_eq_true rfl⟩) rfl rfl (lv_room (Nat.le_of_ble_eq_true rfl)) ⟨Nat.le_of_eq (Nat.zero_add _), Nat.le_of_eq (Nat.zero_add _)⟩ dX0_worthOf_24 (fun H locs cells slots hP hS hB => ?_)
      show W p l e _ s m args below meth c H locs cells slots _ (F0 m _ ls (.long r_4 :: []))
      refine lv_aload_n hx hb dX0_worthOf_27 rfl (lv_at hl 0 rfl) ?_
      refine lv_iload_n hx hb dX0_worthOf_28 rfl (lv_at hl 1 rfl) ?_
      refine lv_iload_n hx hb dX0_worthOf_29 rfl (lv_at hl 2 rfl) ?_
      obtain ⟨r_5, h_5, hE⟩ := ob hE
      refine x_callV (rc1 := _) (rs1 := _) [.int x1, .int x2] (E.2.2.1 0) hC hP hS hB hl.1 (wX0_onOf_11 z x1 x2 r_5 h_5) (xC.c0 hC) (xw_get E _ (k := 0) (by decide)) (cwV 2 hts lkX0_310 rfl rfl rfl cdX0_onOf ⟨Nat.le_of_ble_eq_true rfl, Nat.le_of_ble_eq_true rfl⟩) rfl rfl (lv_room (Nat.le_of_ble_eq_true rfl)) ⟨Nat.le_of_eq (Nat.zero_add _), Nat.le_of_eq (Nat.zero_add _)⟩ dX0_worthOf_30 (fun H locs cells slots hP hS hB => ?_)
      show W p l e _ s m args below meth c H locs cells slots _ (F0 m _ ls (.long r_5.1 :: .long r_4 :: []))
      refine va_mmax_long hx hb (hC.2.2.2.2.1.trans hl.1.symm) hown (hts _ q1012) (hts _ q1006) (hts _ q135) (hts _ q1007) (Nat.le_of_ble_eq_true rfl) (Nat.le_of_ble_eq_true rfl) (Nat.le_trans (Nat.le_add_right _ _) hB.1) (Nat.le_trans (Nat.le_add_right _ _) hB.2) dX0_worthOf_33 ?_
      obtain rfl := Option.some.inj hE
      exact x_lret hC hP hS hB dX0_worthOf_36
    · have hE := ip c_3 hE
      exact wX0_worthOf_11_J14 z x2 hC y hE H locs cells slots ls hP hS hB (lv_sub hl [0, 2] rfl)
noncomputable def fX0_onOf_12 (V : XV) (z : XS) (x1 : Int32) (x2 : Int32) : Option (Int64 × XS) := (fX0_oddsAt V z x1 x2).bind fun r_1 => (fX0_worthOf_11 V r_1.2 x1 (x2 + (1 : Int32))).bind fun r_2 => some ((((10 : Int32) - r_1.1).toInt64 * r_2.1), r_2.2)
set_option maxHeartbeats 1000000 in
theorem wX0_onOf_12 {l : Launch} {E : XE} (z : XS) (x1 : Int32) (x2 : Int32) (y : Int64 × XS) (hE : fX0_onOf_12 E.2.2.2.2.2 z x1 x2 = some y) : xM l yX0_onOf (ws_ yX0_onOf cX0_onOf 3 (some .long)) rmX0_onOf_12 E z [.ref (E.2.2.1 0), .int x1, .int x2] (some (.long y.1)) y.2 := by
  refine x_met (own := RX0) (by decide) rfl (Nat.le_of_ble_eq_true rfl) (fun p e s m args below meth c hC => ?_)
  intro H locs cells slots ls hP hS hB hl
  have hx := hC.1
  have hb := hC.2.1
  have hown := hC.2.2.2.2.2.1
  have hts := hC.2.2.2.2.2.2.1
  have hl : lv_has ls 3 [(0, .ref (E.2.2.1 0)), (1, .int x1), (2, .int x2)] := hl
  unfold fX0_onOf_12 at hE
  refine lv_bipush (v := 10) hx hb dX0_onOf_0 (by decide) ?_
  refine lv_aload_n hx hb dX0_onOf_2 rfl (lv_at hl 0 rfl) ?_
  refine lv_iload_n hx hb dX0_onOf_3 rfl (lv_at hl 1 rfl) ?_
  refine lv_iload_n hx hb dX0_onOf_4 rfl (lv_at hl 2 rfl) ?_
  obtain ⟨r_1, h_1, hE⟩ := ob hE
  refine x_callV (rc1 := _) (rs1 := _) [.int x1, .int x2] (E.2.2.1 0) hC hP hS hB hl.1 (wX0_oddsAt z x1 x2 r_1 h_1) (xC.c0 hC) (xw_get E _ (k := 0) (by decide)) (cwV 2 hts lkX0_275 rfl rfl rfl cdX0_oddsAt ⟨Nat.le_of_ble_eq_true rfl, Nat.le_of_ble_eq_true rfl⟩) rfl rfl (lv_room (Nat.le_of_ble_eq_true rfl)) ⟨Nat.le_of_eq (Nat.zero_add _), Nat.le_of_eq (Nat.zero_add _)⟩ dX0_onOf_5 (fun H locs cells slots hP hS hB => ?_)
  show W p l e _ s m args below meth c H locs cells slots _ (F0 m _ ls (.int r_1.1 :: .int (10 : Int32) :: []))
  refine lv_isub hx hb dX0_onOf_8 ?_
  refine lv_i2l hx hb dX0_onOf_9 rfl ?_
  refine lv_aload_n hx hb dX0_onOf_10 rfl (lv_at hl 0 rfl) ?_
  refine lv_iload_n hx hb dX0_onOf_11 rfl (lv_at hl 1 rfl) ?_
  refine lv_iload_n hx hb dX0_onOf_12 rfl (lv_at hl 2 rfl) ?_
  refine lv_iconst (v := 1) hx hb dX0_onOf_13 (by decide) ?_
  refine lv_iadd hx hb dX0_onOf_14 ?_
  obtain ⟨r_2, h_2, hE⟩ := ob hE
  refine x_callV (rc1 := _) (rs1 := _) [.int x1, .int (x2 + (1 : Int32))] (E.2.2.1 0) hC hP hS hB hl.1 (wX0_worthOf_11 r_1.2 x1 (x2 + (1 : Int32)) r_2 h_2) (xC.c0 hC) (xw_get E _ (k := 0) (by decide)) (cwV 2 hts lkX0_303 rfl rfl rfl cdX0_worthOf ⟨Nat.le_of_ble_eq_true rfl, Nat.le_of_ble_eq_true rfl⟩) rfl rfl (lv_room (Nat.le_of_ble_eq_true rfl)) ⟨Nat.le_of_eq (Nat.zero_add _), Nat.le_of_eq (Nat.zero_add _)⟩ dX0_onOf_15 (fun H locs cells slots hP hS hB => ?_)
  show W p l e _ s m args below meth c H locs cells slots _ (F0 m _ ls (.long r_2.1 :: .long ((10 : Int32) - r_1.1).toInt64 :: []))
  refine lv_lmul hx hb dX0_onOf_18 ?_
  obtain rfl := Option.some.inj hE
  exact x_lret hC hP hS hB dX0_onOf_19
noncomputable def fX0_worthOf_12_J14 (V : XV) (z : XS) (x2 : Int32) : Option (Int64 × XS) := (fX0_stopsFor z x2).bind fun r_2 => some (r_2, z)
set_option maxHeartbeats 1000000 in
theorem wX0_worthOf_12_J14 {p : Program} {l : Launch} {e : Env} {s : State} {m : MethodId} {args : Array Value} {below : List Frame} {meth : Method} {c : Code} {E : XE} (z : XS) (x2 : Int32) (hC : xC E RX0 cX0_worthOf 3 (some .long) p s m args meth c) (y : Int64 × XS) (hE : fX0_worthOf_12_J14 E.2.2.2.2.2 z x2 = some y) : xW p l e rmX0_worthOf_12 s m args below meth c E 3 (xQ E rmX0_worthOf_12 below args s (some (.long y.1)) y.2) 0 0 14 [(0, .ref (E.2.2.1 0)), (2, .int x2)] [] z := by
  intro H locs cells slots ls hP hS hB hl
  have hx := hC.1
  have hb := hC.2.1
  have hown := hC.2.2.2.2.2.1
  have hts := hC.2.2.2.2.2.2.1
  unfold fX0_worthOf_12_J14 at hE
  refine lv_aload_n hx hb dX0_worthOf_14 rfl (lv_at hl 0 rfl) ?_
  refine lv_iload_n hx hb dX0_worthOf_15 rfl (lv_at hl 1 rfl) ?_
  obtain ⟨r_2, h_2, hE⟩ := ob hE
  refine x_callV (rc1 := _) (rs1 := _) [.int x2] (E.2.2.1 0) hC hP hS hB hl.1 (wX0_stopsFor z x2 r_2 h_2) (xC.c0 hC) (xw_get E _ (k := 0) (by decide)) (cwV 1 hts lkX0_306 rfl rfl rfl cdX0_stopsFor ⟨Nat.le_of_ble_eq_true rfl, Nat.le_of_ble_eq_true rfl⟩) rfl rfl (lv_room (Nat.le_of_ble_eq_true rfl)) ⟨Nat.le_of_eq (Nat.zero_add _), Nat.le_of_eq (Nat.zero_add _)⟩ dX0_worthOf_16 (fun H locs cells slots hP hS hB => ?_)
  show W p l e _ s m args below meth c H locs cells slots _ (F0 m _ ls (.long r_2 :: []))
  refine lv_goto (tgt := 36) hx hb dX0_worthOf_19 (by decide) ?_
  obtain rfl := Option.some.inj hE
  exact x_lret hC hP hS hB dX0_worthOf_36
noncomputable def fX0_worthOf_12 (V : XV) (z : XS) (x1 : Int32) (x2 : Int32) : Option (Int64 × XS) := if x2 = (12 : Int32) then ((fX0_worthOf_12_J14 V z x2)) else (if x2 = (z.1 9) then ((fX0_worthOf_12_J14 V z x2)) else ((fX0_stopsFor z x2).bind fun r_4 => (fX0_onOf_12 V z x1 x2).bind fun r_5 => some ((if r_5.1 < r_4 then r_4 else r_5.1), r_5.2)))
set_option maxHeartbeats 1000000 in
theorem wX0_worthOf_12 {l : Launch} {E : XE} (z : XS) (x1 : Int32) (x2 : Int32) (y : Int64 × XS) (hE : fX0_worthOf_12 E.2.2.2.2.2 z x1 x2 = some y) : xM l yX0_worthOf (ws_ yX0_worthOf cX0_worthOf 3 (some .long)) rmX0_worthOf_12 E z [.ref (E.2.2.1 0), .int x1, .int x2] (some (.long y.1)) y.2 := by
  refine x_met (own := RX0) (by decide) rfl (Nat.le_of_ble_eq_true rfl) (fun p e s m args below meth c hC => ?_)
  intro H locs cells slots ls hP hS hB hl
  have hx := hC.1
  have hb := hC.2.1
  have hown := hC.2.2.2.2.2.1
  have hts := hC.2.2.2.2.2.2.1
  have hl : lv_has ls 3 [(0, .ref (E.2.2.1 0)), (1, .int x1), (2, .int x2)] := hl
  unfold fX0_worthOf_12 at hE
  refine lv_iload_n hx hb dX0_worthOf_0 rfl (lv_at hl 2 rfl) ?_
  refine lv_bipush (v := 12) hx hb dX0_worthOf_1 (by decide) ?_
  refine lv_icmp_eq (tgt := 14) hx hb dX0_worthOf_3 (by decide) (fun c_1 => ?_) (fun c_1 => ?_)
  · have hE := ip c_1 hE
    exact wX0_worthOf_12_J14 z x2 hC y hE H locs cells slots ls hP hS hB (lv_sub hl [0, 2] rfl)
  · have hE := iq c_1 hE
    refine lv_iload_n hx hb dX0_worthOf_6 rfl (lv_at hl 2 rfl) ?_
    refine lv_aload_n hx hb dX0_worthOf_7 rfl (lv_at hl 0 rfl) ?_
    refine gX_272 hC hP dX0_worthOf_8 ?_
    refine lv_icmp_ne (tgt := 22) hx hb dX0_worthOf_11 (by decide) (fun c_3 => ?_) (fun c_3 => ?_)
    · have hE := iq c_3 hE
      refine lv_aload_n hx hb dX0_worthOf_22 rfl (lv_at hl 0 rfl) ?_
      refine lv_iload_n hx hb dX0_worthOf_23 rfl (lv_at hl 2 rfl) ?_
      obtain ⟨r_4, h_4, hE⟩ := ob hE
      refine x_callV (rc1 := _) (rs1 := _) [.int x2] (E.2.2.1 0) hC hP hS hB hl.1 (wX0_stopsFor z x2 r_4 h_4) (xC.c0 hC) (xw_get E _ (k := 0) (by decide)) (cwV 1 hts lkX0_306 rfl rfl rfl cdX0_stopsFor ⟨Nat.le_of_ble_eq_true rfl, Nat.le_of_ble_eq_true rfl⟩) rfl rfl (lv_room (Nat.le_of_ble_eq_true rfl)) ⟨Nat.le_of_eq (Nat.zero_add _), Nat.le_of_eq (Nat.zero_add _)⟩ dX0_worthOf_24 (fun H locs cells slots hP hS hB => ?_)
      show W p l e _ s m args below meth c H locs cells slots _ (F0 m _ ls (.long r_4 :: []))
      refine lv_aload_n hx hb dX0_worthOf_27 rfl (lv_at hl 0 rfl) ?_
      refine lv_iload_n hx hb dX0_worthOf_28 rfl (lv_at hl 1 rfl) ?_
      refine lv_iload_n hx hb dX0_worthOf_29 rfl (lv_at hl 2 rfl) ?_
      obtain ⟨r_5, h_5, hE⟩ := ob hE
      refine x_callV (rc1 := _) (rs1 := _) [.int x1, .int x2] (E.2.2.1 0) hC hP hS hB hl.1 (wX0_onOf_12 z x1 x2 r_5 h_5) (xC.c0 hC) (xw_get E _ (k := 0) (by decide)) (cwV 2 hts lkX0_310 rfl rfl rfl cdX0_onOf ⟨Nat.le_of_ble_eq_true rfl, Nat.le_of_ble_eq_true rfl⟩) rfl rfl (lv_room (Nat.le_of_ble_eq_true rfl)) ⟨Nat.le_of_eq (Nat.zero_add _), Nat.le_of_eq (Nat.zero_add _)⟩ dX0_worthOf_30 (fun H locs cells slots hP hS hB => ?_)
      show W p l e _ s m args below meth c H locs cells slots _ (F0 m _ ls (.long r_5.1 :: .long r_4 :: []))
      refine va_mmax_long hx hb (hC.2.2.2.2.1.trans hl.1.symm) hown (hts _ q1012) (hts _ q1006) (hts _ q135) (hts _ q1007) (Nat.le_of_ble_eq_true rfl) (Nat.le_of_ble_eq_true rfl) (Nat.le_trans (Nat.le_add_right _ _) hB.1) (Nat.le_trans (Nat.le_add_right _ _) hB.2) dX0_worthOf_33 ?_
      obtain rfl := Option.some.inj hE
      exact x_lret hC hP hS hB dX0_worthOf_36
    · have hE := ip c_3 hE
      exact wX0_worthOf_12_J14 z x2 hC y hE H locs cells slots ls hP hS hB (lv_sub hl [0, 2] rfl)
noncomputable def fX0_onOf_13 (V : XV) (z : XS) (x1 : Int32) (x2 : Int32) : Option (Int64 × XS) := (fX0_oddsAt V z x1 x2).bind fun r_1 => (fX0_worthOf_12 V r_1.2 x1 (x2 + (1 : Int32))).bind fun r_2 => some ((((10 : Int32) - r_1.1).toInt64 * r_2.1), r_2.2)
set_option maxHeartbeats 1000000 in
theorem wX0_onOf_13 {l : Launch} {E : XE} (z : XS) (x1 : Int32) (x2 : Int32) (y : Int64 × XS) (hE : fX0_onOf_13 E.2.2.2.2.2 z x1 x2 = some y) : xM l yX0_onOf (ws_ yX0_onOf cX0_onOf 3 (some .long)) rmX0_onOf_13 E z [.ref (E.2.2.1 0), .int x1, .int x2] (some (.long y.1)) y.2 := by
  refine x_met (own := RX0) (by decide) rfl (Nat.le_of_ble_eq_true rfl) (fun p e s m args below meth c hC => ?_)
  intro H locs cells slots ls hP hS hB hl
  have hx := hC.1
  have hb := hC.2.1
  have hown := hC.2.2.2.2.2.1
  have hts := hC.2.2.2.2.2.2.1
  have hl : lv_has ls 3 [(0, .ref (E.2.2.1 0)), (1, .int x1), (2, .int x2)] := hl
  unfold fX0_onOf_13 at hE
  refine lv_bipush (v := 10) hx hb dX0_onOf_0 (by decide) ?_
  refine lv_aload_n hx hb dX0_onOf_2 rfl (lv_at hl 0 rfl) ?_
  refine lv_iload_n hx hb dX0_onOf_3 rfl (lv_at hl 1 rfl) ?_
  refine lv_iload_n hx hb dX0_onOf_4 rfl (lv_at hl 2 rfl) ?_
  obtain ⟨r_1, h_1, hE⟩ := ob hE
  refine x_callV (rc1 := _) (rs1 := _) [.int x1, .int x2] (E.2.2.1 0) hC hP hS hB hl.1 (wX0_oddsAt z x1 x2 r_1 h_1) (xC.c0 hC) (xw_get E _ (k := 0) (by decide)) (cwV 2 hts lkX0_275 rfl rfl rfl cdX0_oddsAt ⟨Nat.le_of_ble_eq_true rfl, Nat.le_of_ble_eq_true rfl⟩) rfl rfl (lv_room (Nat.le_of_ble_eq_true rfl)) ⟨Nat.le_of_eq (Nat.zero_add _), Nat.le_of_eq (Nat.zero_add _)⟩ dX0_onOf_5 (fun H locs cells slots hP hS hB => ?_)
  show W p l e _ s m args below meth c H locs cells slots _ (F0 m _ ls (.int r_1.1 :: .int (10 : Int32) :: []))
  refine lv_isub hx hb dX0_onOf_8 ?_
  refine lv_i2l hx hb dX0_onOf_9 rfl ?_
  refine lv_aload_n hx hb dX0_onOf_10 rfl (lv_at hl 0 rfl) ?_
  refine lv_iload_n hx hb dX0_onOf_11 rfl (lv_at hl 1 rfl) ?_
  refine lv_iload_n hx hb dX0_onOf_12 rfl (lv_at hl 2 rfl) ?_
  refine lv_iconst (v := 1) hx hb dX0_onOf_13 (by decide) ?_
  refine lv_iadd hx hb dX0_onOf_14 ?_
  obtain ⟨r_2, h_2, hE⟩ := ob hE
  refine x_callV (rc1 := _) (rs1 := _) [.int x1, .int (x2 + (1 : Int32))] (E.2.2.1 0) hC hP hS hB hl.1 (wX0_worthOf_12 r_1.2 x1 (x2 + (1 : Int32)) r_2 h_2) (xC.c0 hC) (xw_get E _ (k := 0) (by decide)) (cwV 2 hts lkX0_303 rfl rfl rfl cdX0_worthOf ⟨Nat.le_of_ble_eq_true rfl, Nat.le_of_ble_eq_true rfl⟩) rfl rfl (lv_room (Nat.le_of_ble_eq_true rfl)) ⟨Nat.le_of_eq (Nat.zero_add _), Nat.le_of_eq (Nat.zero_add _)⟩ dX0_onOf_15 (fun H locs cells slots hP hS hB => ?_)
  show W p l e _ s m args below meth c H locs cells slots _ (F0 m _ ls (.long r_2.1 :: .long ((10 : Int32) - r_1.1).toInt64 :: []))
  refine lv_lmul hx hb dX0_onOf_18 ?_
  obtain rfl := Option.some.inj hE
  exact x_lret hC hP hS hB dX0_onOf_19
noncomputable def fX0_worthOf_13_J14 (V : XV) (z : XS) (x2 : Int32) : Option (Int64 × XS) := (fX0_stopsFor z x2).bind fun r_2 => some (r_2, z)
set_option maxHeartbeats 1000000 in
theorem wX0_worthOf_13_J14 {p : Program} {l : Launch} {e : Env} {s : State} {m : MethodId} {args : Array Value} {below : List Frame} {meth : Method} {c : Code} {E : XE} (z : XS) (x2 : Int32) (hC : xC E RX0 cX0_worthOf 3 (some .long) p s m args meth c) (y : Int64 × XS) (hE : fX0_worthOf_13_J14 E.2.2.2.2.2 z x2 = some y) : xW p l e rmX0_worthOf_13 s m args below meth c E 3 (xQ E rmX0_worthOf_13 below args s (some (.long y.1)) y.2) 0 0 14 [(0, .ref (E.2.2.1 0)), (2, .int x2)] [] z := by
  intro H locs cells slots ls hP hS hB hl
  have hx := hC.1
  have hb := hC.2.1
  have hown := hC.2.2.2.2.2.1
  have hts := hC.2.2.2.2.2.2.1
  unfold fX0_worthOf_13_J14 at hE
  refine lv_aload_n hx hb dX0_worthOf_14 rfl (lv_at hl 0 rfl) ?_
  refine lv_iload_n hx hb dX0_worthOf_15 rfl (lv_at hl 1 rfl) ?_
  obtain ⟨r_2, h_2, hE⟩ := ob hE
  refine x_callV (rc1 := _) (rs1 := _) [.int x2] (E.2.2.1 0) hC hP hS hB hl.1 (wX0_stopsFor z x2 r_2 h_2) (xC.c0 hC) (xw_get E _ (k := 0) (by decide)) (cwV 1 hts lkX0_306 rfl rfl rfl cdX0_stopsFor ⟨Nat.le_of_ble_eq_true rfl, Nat.le_of_ble_eq_true rfl⟩) rfl rfl (lv_room (Nat.le_of_ble_eq_true rfl)) ⟨Nat.le_of_eq (Nat.zero_add _), Nat.le_of_eq (Nat.zero_add _)⟩ dX0_worthOf_16 (fun H locs cells slots hP hS hB => ?_)
  show W p l e _ s m args below meth c H locs cells slots _ (F0 m _ ls (.long r_2 :: []))
  refine lv_goto (tgt := 36) hx hb dX0_worthOf_19 (by decide) ?_
  obtain rfl := Option.some.inj hE
  exact x_lret hC hP hS hB dX0_worthOf_36
noncomputable def fX0_worthOf_13 (V : XV) (z : XS) (x1 : Int32) (x2 : Int32) : Option (Int64 × XS) := if x2 = (12 : Int32) then ((fX0_worthOf_13_J14 V z x2)) else (if x2 = (z.1 9) then ((fX0_worthOf_13_J14 V z x2)) else ((fX0_stopsFor z x2).bind fun r_4 => (fX0_onOf_13 V z x1 x2).bind fun r_5 => some ((if r_5.1 < r_4 then r_4 else r_5.1), r_5.2)))
set_option maxHeartbeats 1000000 in
theorem wX0_worthOf_13 {l : Launch} {E : XE} (z : XS) (x1 : Int32) (x2 : Int32) (y : Int64 × XS) (hE : fX0_worthOf_13 E.2.2.2.2.2 z x1 x2 = some y) : xM l yX0_worthOf (ws_ yX0_worthOf cX0_worthOf 3 (some .long)) rmX0_worthOf_13 E z [.ref (E.2.2.1 0), .int x1, .int x2] (some (.long y.1)) y.2 := by
  refine x_met (own := RX0) (by decide) rfl (Nat.le_of_ble_eq_true rfl) (fun p e s m args below meth c hC => ?_)
  intro H locs cells slots ls hP hS hB hl
  have hx := hC.1
  have hb := hC.2.1
  have hown := hC.2.2.2.2.2.1
  have hts := hC.2.2.2.2.2.2.1
  have hl : lv_has ls 3 [(0, .ref (E.2.2.1 0)), (1, .int x1), (2, .int x2)] := hl
  unfold fX0_worthOf_13 at hE
  refine lv_iload_n hx hb dX0_worthOf_0 rfl (lv_at hl 2 rfl) ?_
  refine lv_bipush (v := 12) hx hb dX0_worthOf_1 (by decide) ?_
  refine lv_icmp_eq (tgt := 14) hx hb dX0_worthOf_3 (by decide) (fun c_1 => ?_) (fun c_1 => ?_)
  · have hE := ip c_1 hE
    exact wX0_worthOf_13_J14 z x2 hC y hE H locs cells slots ls hP hS hB (lv_sub hl [0, 2] rfl)
  · have hE := iq c_1 hE
    refine lv_iload_n hx hb dX0_worthOf_6 rfl (lv_at hl 2 rfl) ?_
    refine lv_aload_n hx hb dX0_worthOf_7 rfl (lv_at hl 0 rfl) ?_
    refine gX_272 hC hP dX0_worthOf_8 ?_
    refine lv_icmp_ne (tgt := 22) hx hb dX0_worthOf_11 (by decide) (fun c_3 => ?_) (fun c_3 => ?_)
    · have hE := iq c_3 hE
      refine lv_aload_n hx hb dX0_worthOf_22 rfl (lv_at hl 0 rfl) ?_
      refine lv_iload_n hx hb dX0_worthOf_23 rfl (lv_at hl 2 rfl) ?_
      obtain ⟨r_4, h_4, hE⟩ := ob hE
      refine x_callV (rc1 := _) (rs1 := _) [.int x2] (E.2.2.1 0) hC hP hS hB hl.1 (wX0_stopsFor z x2 r_4 h_4) (xC.c0 hC) (xw_get E _ (k := 0) (by decide)) (cwV 1 hts lkX0_306 rfl rfl rfl cdX0_stopsFor ⟨Nat.le_of_ble_eq_true rfl, Nat.le_of_ble_eq_true rfl⟩) rfl rfl (lv_room (Nat.le_of_ble_eq_true rfl)) ⟨Nat.le_of_eq (Nat.zero_add _), Nat.le_of_eq (Nat.zero_add _)⟩ dX0_worthOf_24 (fun H locs cells slots hP hS hB => ?_)
      show W p l e _ s m args below meth c H locs cells slots _ (F0 m _ ls (.long r_4 :: []))
      refine lv_aload_n hx hb dX0_worthOf_27 rfl (lv_at hl 0 rfl) ?_
      refine lv_iload_n hx hb dX0_worthOf_28 rfl (lv_at hl 1 rfl) ?_
      refine lv_iload_n hx hb dX0_worthOf_29 rfl (lv_at hl 2 rfl) ?_
      obtain ⟨r_5, h_5, hE⟩ := ob hE
      refine x_callV (rc1 := _) (rs1 := _) [.int x1, .int x2] (E.2.2.1 0) hC hP hS hB hl.1 (wX0_onOf_13 z x1 x2 r_5 h_5) (xC.c0 hC) (xw_get E _ (k := 0) (by decide)) (cwV 2 hts lkX0_310 rfl rfl rfl cdX0_onOf ⟨Nat.le_of_ble_eq_true rfl, Nat.le_of_ble_eq_true rfl⟩) rfl rfl (lv_room (Nat.le_of_ble_eq_true rfl)) ⟨Nat.le_of_eq (Nat.zero_add _), Nat.le_of_eq (Nat.zero_add _)⟩ dX0_worthOf_30 (fun H locs cells slots hP hS hB => ?_)
      show W p l e _ s m args below meth c H locs cells slots _ (F0 m _ ls (.long r_5.1 :: .long r_4 :: []))
      refine va_mmax_long hx hb (hC.2.2.2.2.1.trans hl.1.symm) hown (hts _ q1012) (hts _ q1006) (hts _ q135) (hts _ q1007) (Nat.le_of_ble_eq_true rfl) (Nat.le_of_ble_eq_true rfl) (Nat.le_trans (Nat.le_add_right _ _) hB.1) (Nat.le_trans (Nat.le_add_right _ _) hB.2) dX0_worthOf_33 ?_
      obtain rfl := Option.some.inj hE
      exact x_lret hC hP hS hB dX0_worthOf_36
    · have hE := ip c_3 hE
      exact wX0_worthOf_13_J14 z x2 hC y hE H locs cells slots ls hP hS hB (lv_sub hl [0, 2] rfl)
noncomputable def fX0_worth (k : Nat) (V : XV) (z : XS) (x1 : Int32) (x2 : Int32) (x3 : Int32) : Option (Int64 × XS) := (fX0_isChild z x1).bind fun r_1 => if r_1 = 0 then (some ((-1 : Int64), z)) else ((fX0_isPlace x2).bind fun r_3 => if r_3 = 0 then (some ((-1 : Int64), z)) else ((fX0_laysBars k z x2).bind fun r_5 => (fX0_power 20 (10 : Int64) (12 : Int32)).bind fun r_6 => (fX0_worthOf_13 V r_5 x1 (0 : Int32)).bind fun r_7 => (fX0_common 100 r_6 r_7.1).bind fun r_8 => if x3 = 0 then (if r_8 = (0 : Int64) then none else some ((r_7.1 / r_8), r_7.2)) else (if r_8 = (0 : Int64) then none else some ((r_6 / r_8), r_7.2))))
set_option maxHeartbeats 1000000 in
theorem wX0_worth {l : Launch} {E : XE} (k : Nat) (z : XS) (x1 : Int32) (x2 : Int32) (x3 : Int32) (y : Int64 × XS) (hE : fX0_worth k E.2.2.2.2.2 z x1 x2 x3 = some y) : xM l yX0_worth (ws_ yX0_worth cX0_worth 10 (some .long)) rmX0_worth E z [.ref (E.2.2.1 0), .int x1, .int x2, .int x3] (some (.long y.1)) y.2 := by
  refine x_met (own := RX0) (by decide) rfl (Nat.le_of_ble_eq_true rfl) (fun p e s m args below meth c hC => ?_)
  intro H locs cells slots ls hP hS hB hl
  have hx := hC.1
  have hb := hC.2.1
  have hown := hC.2.2.2.2.2.1
  have hts := hC.2.2.2.2.2.2.1
  have hl : lv_has ls 10 [(0, .ref (E.2.2.1 0)), (1, .int x1), (2, .int x2), (3, .int x3)] := hl
  unfold fX0_worth at hE
  refine lv_aload_n hx hb dX0_worth_0 rfl (lv_at hl 0 rfl) ?_
  refine lv_iload_n hx hb dX0_worth_1 rfl (lv_at hl 1 rfl) ?_
  obtain ⟨r_1, h_1, hE⟩ := ob hE
  refine x_callV (rc1 := _) (rs1 := _) [.int x1] (E.2.2.1 0) hC hP hS hB hl.1 (wX0_isChild z x1 r_1 h_1) (xC.c0 hC) (xw_get E _ (k := 0) (by decide)) (cwV 1 hts lkX0_159 rfl rfl rfl cdX0_isChild ⟨Nat.le_of_ble_eq_true rfl, Nat.le_of_ble_eq_true rfl⟩) rfl rfl (lv_room (Nat.le_of_ble_eq_true rfl)) ⟨Nat.le_of_eq (Nat.zero_add _), Nat.le_of_eq (Nat.zero_add _)⟩ dX0_worth_2 (fun H locs cells slots hP hS hB => ?_)
  show W p l e _ s m args below meth c H locs cells slots _ (F0 m _ ls (.int r_1 :: []))
  refine lv_if_eq (tgt := 15) hx hb dX0_worth_5 (by decide) (fun c_2 => ?_) (fun c_2 => ?_)
  · have hE := ip c_2 hE
    refine lv_ldc2 (v := -1) hx hb hown (hts _ q1144) dX0_worth_15 ?_
    obtain rfl := Option.some.inj hE
    exact x_lret hC hP hS hB dX0_worth_18
  · have hE := iq c_2 hE
    refine lv_iload_n hx hb dX0_worth_8 rfl (lv_at hl 2 rfl) ?_
    obtain ⟨r_3, h_3, hE⟩ := ob hE
    refine s_calli [.int x2] hC.sC hl.1 (wX0_isPlace x2 r_3 h_3) (va_cwS 1 hts lkX0_68 rfl rfl rfl cdX0_isPlace ⟨Nat.le_of_ble_eq_true rfl, Nat.le_of_ble_eq_true rfl⟩) rfl rfl (lv_room (Nat.le_of_ble_eq_true rfl)) (hB0 hB) dX0_worth_9 ?_
    refine lv_if_ne (tgt := 19) hx hb dX0_worth_12 (by decide) (fun c_4 => ?_) (fun c_4 => ?_)
    · have hE := iq c_4 hE
      refine lv_aload_n hx hb dX0_worth_19 rfl (lv_at hl 0 rfl) ?_
      refine lv_iload_n hx hb dX0_worth_20 rfl (lv_at hl 2 rfl) ?_
      obtain ⟨r_5, h_5, hE⟩ := ob hE
      refine x_callV (rc1 := _) (rs1 := _) [.int x2] (E.2.2.1 0) hC hP hS hB hl.1 (wX0_laysBars k z x2 r_5 h_5) (xC.c0 hC) (xw_get E _ (k := 0) (by decide)) (cwV 1 hts lkX0_287 rfl rfl rfl cdX0_laysBars ⟨Nat.le_of_ble_eq_true rfl, Nat.le_of_ble_eq_true rfl⟩) rfl rfl (lv_room (Nat.le_of_ble_eq_true rfl)) ⟨Nat.le_of_eq (Nat.zero_add _), Nat.le_of_eq (Nat.zero_add _)⟩ dX0_worth_21 (fun H locs cells slots hP hS hB => ?_)
      show W p l e _ s m args below meth c H locs cells slots _ (F0 m _ ls ([]))
      refine lv_ldc2 (v := 10) hx hb hown (hts _ q1157) dX0_worth_24 ?_
      refine lv_bipush (v := 12) hx hb dX0_worth_27 (by decide) ?_
      obtain ⟨r_6, h_6, hE⟩ := ob hE
      refine s_calll [.long (10 : Int64), .int (12 : Int32)] hC.sC hl.1 (wX0_power 20 (10 : Int64) (12 : Int32) r_6 h_6) (va_cwS 2 hts lkX0_281 rfl rfl rfl cdX0_power ⟨Nat.le_of_ble_eq_true rfl, Nat.le_of_ble_eq_true rfl⟩) rfl rfl (lv_room (Nat.le_of_ble_eq_true rfl)) (hB0 hB) dX0_worth_29 ?_
      refine lv_lstore (lv' := [(4, .long r_6), (0, .ref (E.2.2.1 0)), (1, .int x1), (2, .int x2), (3, .int x3)]) hx hb dX0_worth_32 hl (Nat.le_of_ble_eq_true rfl) rfl (fun ls hl => ?_)
      refine lv_aload_n hx hb dX0_worth_34 rfl (lv_at hl 1 rfl) ?_
      refine lv_iload_n hx hb dX0_worth_35 rfl (lv_at hl 2 rfl) ?_
      refine lv_iconst (v := 0) hx hb dX0_worth_36 (by decide) ?_
      obtain ⟨r_7, h_7, hE⟩ := ob hE
      refine x_callV (rc1 := _) (rs1 := _) [.int x1, .int (0 : Int32)] (E.2.2.1 0) hC hP hS hB hl.1 (wX0_worthOf_13 r_5 x1 (0 : Int32) r_7 h_7) (xC.c0 hC) (xw_get E _ (k := 0) (by decide)) (cwV 2 hts lkX0_303 rfl rfl rfl cdX0_worthOf ⟨Nat.le_of_ble_eq_true rfl, Nat.le_of_ble_eq_true rfl⟩) rfl rfl (lv_room (Nat.le_of_ble_eq_true rfl)) ⟨Nat.le_of_eq (Nat.zero_add _), Nat.le_of_eq (Nat.zero_add _)⟩ dX0_worth_37 (fun H locs cells slots hP hS hB => ?_)
      show W p l e _ s m args below meth c H locs cells slots _ (F0 m _ ls (.long r_7.1 :: []))
      refine lv_lstore (lv' := [(6, .long r_7.1), (4, .long r_6), (0, .ref (E.2.2.1 0)), (1, .int x1), (2, .int x2), (3, .int x3)]) hx hb dX0_worth_40 hl (Nat.le_of_ble_eq_true rfl) rfl (fun ls hl => ?_)
      refine lv_lload hx hb dX0_worth_42 (lv_at hl 1 rfl) ?_
      refine lv_lload hx hb dX0_worth_44 (lv_at hl 0 rfl) ?_
      obtain ⟨r_8, h_8, hE⟩ := ob hE
      refine s_calll [.long r_6, .long r_7.1] hC.sC hl.1 (wX0_common 100 r_6 r_7.1 r_8 h_8) (va_cwS 2 hts lkX0_278 rfl rfl rfl cdX0_common ⟨Nat.le_of_ble_eq_true rfl, Nat.le_of_ble_eq_true rfl⟩) rfl rfl (lv_room (Nat.le_of_ble_eq_true rfl)) (hB0 hB) dX0_worth_46 ?_
      refine lv_lstore (lv' := [(8, .long r_8), (6, .long r_7.1), (4, .long r_6), (0, .ref (E.2.2.1 0)), (1, .int x1), (2, .int x2), (3, .int x3)]) hx hb dX0_worth_49 hl (Nat.le_of_ble_eq_true rfl) rfl (fun ls hl => ?_)
      refine lv_iload_n hx hb dX0_worth_51 rfl (lv_at hl 6 rfl) ?_
      refine lv_if_eq (tgt := 63) hx hb dX0_worth_52 (by decide) (fun c_9 => ?_) (fun c_9 => ?_)
      · have hE := ip c_9 hE
        refine lv_lload hx hb dX0_worth_63 (lv_at hl 1 rfl) ?_
        refine lv_lload hx hb dX0_worth_65 (lv_at hl 0 rfl) ?_
        obtain ⟨c_10, hE⟩ := og hE
        refine lv_ldiv hx hb dX0_worth_67 c_10 ?_
        obtain rfl := Option.some.inj hE
        exact x_lret hC hP hS hB dX0_worth_68
      · have hE := iq c_9 hE
        refine lv_lload hx hb dX0_worth_55 (lv_at hl 2 rfl) ?_
        refine lv_lload hx hb dX0_worth_57 (lv_at hl 0 rfl) ?_
        obtain ⟨c_11, hE⟩ := og hE
        refine lv_ldiv hx hb dX0_worth_59 c_11 ?_
        refine lv_goto (tgt := 68) hx hb dX0_worth_60 (by decide) ?_
        obtain rfl := Option.some.inj hE
        exact x_lret hC hP hS hB dX0_worth_68
    · have hE := ip c_4 hE
      refine lv_ldc2 (v := -1) hx hb hown (hts _ q1144) dX0_worth_15 ?_
      obtain rfl := Option.some.inj hE
      exact x_lret hC hP hS hB dX0_worth_18
noncomputable def fX0_goesOn (k : Nat) (V : XV) (z : XS) (x1 : Int32) (x2 : Int32) (x3 : Int32) : Option (Int32 × XS) := (fX0_isChild z x1).bind fun r_1 => if r_1 = 0 then (some ((-1 : Int32), z)) else ((fX0_isPlace x2).bind fun r_3 => if r_3 = 0 then (some ((-1 : Int32), z)) else ((fX0_in x3 (0 : Int32) (11 : Int32)).bind fun r_5 => if r_5 = 0 then (some ((-1 : Int32), z)) else ((fX0_laysBars k z x2).bind fun r_7 => if x3 < (r_7.1 9) then ((fX0_onOf_13 V r_7 x1 x3).bind fun r_9 => (fX0_stopsFor r_9.2 x3).bind fun r_10 => if (lg_cmp r_9.1 r_10) ≤ 0 then (some ((0 : Int32), r_9.2)) else (some ((1 : Int32), r_9.2))) else (some ((-1 : Int32), r_7)))))
set_option maxHeartbeats 1000000 in
theorem wX0_goesOn {l : Launch} {E : XE} (k : Nat) (z : XS) (x1 : Int32) (x2 : Int32) (x3 : Int32) (y : Int32 × XS) (hE : fX0_goesOn k E.2.2.2.2.2 z x1 x2 x3 = some y) : xM l yX0_goesOn (ws_ yX0_goesOn cX0_goesOn 4 (some .int)) rmX0_goesOn E z [.ref (E.2.2.1 0), .int x1, .int x2, .int x3] (some (.int y.1)) y.2 := by
  refine x_met (own := RX0) (by decide) rfl (Nat.le_of_ble_eq_true rfl) (fun p e s m args below meth c hC => ?_)
  intro H locs cells slots ls hP hS hB hl
  have hx := hC.1
  have hb := hC.2.1
  have hown := hC.2.2.2.2.2.1
  have hts := hC.2.2.2.2.2.2.1
  have hl : lv_has ls 4 [(0, .ref (E.2.2.1 0)), (1, .int x1), (2, .int x2), (3, .int x3)] := hl
  unfold fX0_goesOn at hE
  refine lv_aload_n hx hb dX0_goesOn_0 rfl (lv_at hl 0 rfl) ?_
  refine lv_iload_n hx hb dX0_goesOn_1 rfl (lv_at hl 1 rfl) ?_
  obtain ⟨r_1, h_1, hE⟩ := ob hE
  refine x_callV (rc1 := _) (rs1 := _) [.int x1] (E.2.2.1 0) hC hP hS hB hl.1 (wX0_isChild z x1 r_1 h_1) (xC.c0 hC) (xw_get E _ (k := 0) (by decide)) (cwV 1 hts lkX0_159 rfl rfl rfl cdX0_isChild ⟨Nat.le_of_ble_eq_true rfl, Nat.le_of_ble_eq_true rfl⟩) rfl rfl (lv_room (Nat.le_of_ble_eq_true rfl)) ⟨Nat.le_of_eq (Nat.zero_add _), Nat.le_of_eq (Nat.zero_add _)⟩ dX0_goesOn_2 (fun H locs cells slots hP hS hB => ?_)
  show W p l e _ s m args below meth c H locs cells slots _ (F0 m _ ls (.int r_1 :: []))
  refine lv_if_eq (tgt := 25) hx hb dX0_goesOn_5 (by decide) (fun c_2 => ?_) (fun c_2 => ?_)
  · have hE := ip c_2 hE
    refine lv_iconst (v := -1) hx hb dX0_goesOn_25 (by decide) ?_
    obtain rfl := Option.some.inj hE
    exact x_iret hC hP hS hB dX0_goesOn_26
  · have hE := iq c_2 hE
    refine lv_iload_n hx hb dX0_goesOn_8 rfl (lv_at hl 2 rfl) ?_
    obtain ⟨r_3, h_3, hE⟩ := ob hE
    refine s_calli [.int x2] hC.sC hl.1 (wX0_isPlace x2 r_3 h_3) (va_cwS 1 hts lkX0_68 rfl rfl rfl cdX0_isPlace ⟨Nat.le_of_ble_eq_true rfl, Nat.le_of_ble_eq_true rfl⟩) rfl rfl (lv_room (Nat.le_of_ble_eq_true rfl)) (hB0 hB) dX0_goesOn_9 ?_
    refine lv_if_eq (tgt := 25) hx hb dX0_goesOn_12 (by decide) (fun c_4 => ?_) (fun c_4 => ?_)
    · have hE := ip c_4 hE
      refine lv_iconst (v := -1) hx hb dX0_goesOn_25 (by decide) ?_
      obtain rfl := Option.some.inj hE
      exact x_iret hC hP hS hB dX0_goesOn_26
    · have hE := iq c_4 hE
      refine lv_iload_n hx hb dX0_goesOn_15 rfl (lv_at hl 3 rfl) ?_
      refine lv_iconst (v := 0) hx hb dX0_goesOn_16 (by decide) ?_
      refine lv_bipush (v := 11) hx hb dX0_goesOn_17 (by decide) ?_
      obtain ⟨r_5, h_5, hE⟩ := ob hE
      refine s_calli [.int x3, .int (0 : Int32), .int (11 : Int32)] hC.sC hl.1 (wX0_in x3 (0 : Int32) (11 : Int32) r_5 h_5) (va_cwS 3 hts lkX0_58 rfl rfl rfl cdX0_in ⟨Nat.le_of_ble_eq_true rfl, Nat.le_of_ble_eq_true rfl⟩) rfl rfl (lv_room (Nat.le_of_ble_eq_true rfl)) (hB0 hB) dX0_goesOn_19 ?_
      refine lv_if_ne (tgt := 27) hx hb dX0_goesOn_22 (by decide) (fun c_6 => ?_) (fun c_6 => ?_)
      · have hE := iq c_6 hE
        refine lv_aload_n hx hb dX0_goesOn_27 rfl (lv_at hl 0 rfl) ?_
        refine lv_iload_n hx hb dX0_goesOn_28 rfl (lv_at hl 2 rfl) ?_
        obtain ⟨r_7, h_7, hE⟩ := ob hE
        refine x_callV (rc1 := _) (rs1 := _) [.int x2] (E.2.2.1 0) hC hP hS hB hl.1 (wX0_laysBars k z x2 r_7 h_7) (xC.c0 hC) (xw_get E _ (k := 0) (by decide)) (cwV 1 hts lkX0_287 rfl rfl rfl cdX0_laysBars ⟨Nat.le_of_ble_eq_true rfl, Nat.le_of_ble_eq_true rfl⟩) rfl rfl (lv_room (Nat.le_of_ble_eq_true rfl)) ⟨Nat.le_of_eq (Nat.zero_add _), Nat.le_of_eq (Nat.zero_add _)⟩ dX0_goesOn_29 (fun H locs cells slots hP hS hB => ?_)
        show W p l e _ s m args below meth c H locs cells slots _ (F0 m _ ls ([]))
        refine lv_iload_n hx hb dX0_goesOn_32 rfl (lv_at hl 3 rfl) ?_
        refine lv_aload_n hx hb dX0_goesOn_33 rfl (lv_at hl 0 rfl) ?_
        refine gX_272 hC hP dX0_goesOn_34 ?_
        refine lv_icmp_lt (tgt := 44) hx hb dX0_goesOn_37 (by decide) (fun c_8 => ?_) (fun c_8 => ?_)
        · have hE := ip c_8 hE
          refine lv_aload_n hx hb dX0_goesOn_44 rfl (lv_at hl 0 rfl) ?_
          refine lv_iload_n hx hb dX0_goesOn_45 rfl (lv_at hl 1 rfl) ?_
          refine lv_iload_n hx hb dX0_goesOn_46 rfl (lv_at hl 3 rfl) ?_
          obtain ⟨r_9, h_9, hE⟩ := ob hE
          refine x_callV (rc1 := _) (rs1 := _) [.int x1, .int x3] (E.2.2.1 0) hC hP hS hB hl.1 (wX0_onOf_13 r_7 x1 x3 r_9 h_9) (xC.c0 hC) (xw_get E _ (k := 0) (by decide)) (cwV 2 hts lkX0_310 rfl rfl rfl cdX0_onOf ⟨Nat.le_of_ble_eq_true rfl, Nat.le_of_ble_eq_true rfl⟩) rfl rfl (lv_room (Nat.le_of_ble_eq_true rfl)) ⟨Nat.le_of_eq (Nat.zero_add _), Nat.le_of_eq (Nat.zero_add _)⟩ dX0_goesOn_47 (fun H locs cells slots hP hS hB => ?_)
          show W p l e _ s m args below meth c H locs cells slots _ (F0 m _ ls (.long r_9.1 :: []))
          refine lv_aload_n hx hb dX0_goesOn_50 rfl (lv_at hl 0 rfl) ?_
          refine lv_iload_n hx hb dX0_goesOn_51 rfl (lv_at hl 3 rfl) ?_
          obtain ⟨r_10, h_10, hE⟩ := ob hE
          refine x_callV (rc1 := _) (rs1 := _) [.int x3] (E.2.2.1 0) hC hP hS hB hl.1 (wX0_stopsFor r_9.2 x3 r_10 h_10) (xC.c0 hC) (xw_get E _ (k := 0) (by decide)) (cwV 1 hts lkX0_306 rfl rfl rfl cdX0_stopsFor ⟨Nat.le_of_ble_eq_true rfl, Nat.le_of_ble_eq_true rfl⟩) rfl rfl (lv_room (Nat.le_of_ble_eq_true rfl)) ⟨Nat.le_of_eq (Nat.zero_add _), Nat.le_of_eq (Nat.zero_add _)⟩ dX0_goesOn_52 (fun H locs cells slots hP hS hB => ?_)
          show W p l e _ s m args below meth c H locs cells slots _ (F0 m _ ls (.long r_10 :: .long r_9.1 :: []))
          refine W.lcmp hx hb dX0_goesOn_55 ?_
          refine lv_if_le (tgt := 63) hx hb dX0_goesOn_56 (by decide) (fun c_11 => ?_) (fun c_11 => ?_)
          · have hE := ip c_11 hE
            refine lv_iconst (v := 0) hx hb dX0_goesOn_63 (by decide) ?_
            obtain rfl := Option.some.inj hE
            exact x_iret hC hP hS hB dX0_goesOn_64
          · have hE := iq c_11 hE
            refine lv_iconst (v := 1) hx hb dX0_goesOn_59 (by decide) ?_
            refine lv_goto (tgt := 64) hx hb dX0_goesOn_60 (by decide) ?_
            obtain rfl := Option.some.inj hE
            exact x_iret hC hP hS hB dX0_goesOn_64
        · have hE := iq c_8 hE
          refine lv_iconst (v := -1) hx hb dX0_goesOn_40 (by decide) ?_
          refine lv_goto (tgt := 64) hx hb dX0_goesOn_41 (by decide) ?_
          obtain rfl := Option.some.inj hE
          exact x_iret hC hP hS hB dX0_goesOn_64
      · have hE := ip c_6 hE
        refine lv_iconst (v := -1) hx hb dX0_goesOn_25 (by decide) ?_
        obtain rfl := Option.some.inj hE
        exact x_iret hC hP hS hB dX0_goesOn_26
noncomputable def fX0_best_B19 (k : Nat) (V : XV) (v1 : Int32) (a : Int32 × Int64 × Int32 × XS) : Option ((Int32 × Int64 × Int32 × XS) ⊕ (Int32 × XS)) := if (30 : Int32) ≤ a.2.2.1 then (some (.inr (a.1, a.2.2.2))) else ((fX0_laysBars k a.2.2.2 a.2.2.1).bind fun r_4 => (fX0_worthOf_13 V r_4 v1 (0 : Int32)).bind fun r_5 => if 0 < (lg_cmp r_5.1 a.2.1) then (some (.inl (a.2.2.1, r_5.1, (a.2.2.1 + (1 : Int32)), r_5.2))) else (some (.inl (a.1, a.2.1, (a.2.2.1 + (1 : Int32)), r_5.2))))
set_option maxHeartbeats 1000000 in
theorem wX0_best_B19 {p : Program} {l : Launch} {e : Env} {s : State} {m : MethodId} {args : Array Value} {below : List Frame} {meth : Method} {c : Code} {E : XE} {Q : State → Prop} (k : Nat) (v1 : Int32) (hC : xC E RX0 cX0_best 8 (some .int) p s m args meth c) (a : Int32 × Int64 × Int32 × XS) (y : (Int32 × Int64 × Int32 × XS) ⊕ (Int32 × XS)) (hE : fX0_best_B19 k E.2.2.2.2.2 v1 a = some y) (hc : ∀ a : Int32 × Int64 × Int32 × XS, y = .inl a → xW p l e rmX0_best s m args below meth c E 8 Q 0 0 19 [(0, .ref (E.2.2.1 0)), (1, .int v1), (2, .int a.1), (3, .long a.2.1), (5, .int a.2.2.1)] [] a.2.2.2) (hx1 : ∀ b : Int32 × XS, y = .inr b → xW p l e rmX0_best s m args below meth c E 8 Q 0 0 62 [(2, .int b.1)] [] b.2) : xW p l e rmX0_best s m args below meth c E 8 Q 0 0 19 [(0, .ref (E.2.2.1 0)), (1, .int v1), (2, .int a.1), (3, .long a.2.1), (5, .int a.2.2.1)] [] a.2.2.2 := by
  intro H locs cells slots ls hP hS hB hl
  have hx := hC.1
  have hb := hC.2.1
  have hown := hC.2.2.2.2.2.1
  have hts := hC.2.2.2.2.2.2.1
  unfold fX0_best_B19 at hE
  refine lv_iload hx hb dX0_best_19 (lv_at hl 4 rfl) ?_
  refine lv_bipush (v := 30) hx hb dX0_best_21 (by decide) ?_
  refine lv_icmp_ge (tgt := 62) hx hb dX0_best_23 (by decide) (fun c_3 => ?_) (fun c_3 => ?_)
  · have hE := ip c_3 hE
    exact hx1 _ (Option.some.inj hE).symm H locs cells slots ls hP hS hB (lv_sub hl [2] rfl)
  · have hE := iq c_3 hE
    refine lv_aload_n hx hb dX0_best_26 rfl (lv_at hl 0 rfl) ?_
    refine lv_iload hx hb dX0_best_27 (lv_at hl 4 rfl) ?_
    obtain ⟨r_4, h_4, hE⟩ := ob hE
    refine x_callV (rc1 := _) (rs1 := _) [.int a.2.2.1] (E.2.2.1 0) hC hP hS hB hl.1 (wX0_laysBars k a.2.2.2 a.2.2.1 r_4 h_4) (xC.c0 hC) (xw_get E _ (k := 0) (by decide)) (cwV 1 hts lkX0_287 rfl rfl rfl cdX0_laysBars ⟨Nat.le_of_ble_eq_true rfl, Nat.le_of_ble_eq_true rfl⟩) rfl rfl (lv_room (Nat.le_of_ble_eq_true rfl)) ⟨Nat.le_of_eq (Nat.zero_add _), Nat.le_of_eq (Nat.zero_add _)⟩ dX0_best_29 (fun H locs cells slots hP hS hB => ?_)
    show W p l e _ s m args below meth c H locs cells slots _ (F0 m _ ls ([]))
    refine lv_aload_n hx hb dX0_best_32 rfl (lv_at hl 0 rfl) ?_
    refine lv_iload_n hx hb dX0_best_33 rfl (lv_at hl 1 rfl) ?_
    refine lv_iconst (v := 0) hx hb dX0_best_34 (by decide) ?_
    obtain ⟨r_5, h_5, hE⟩ := ob hE
    refine x_callV (rc1 := _) (rs1 := _) [.int v1, .int (0 : Int32)] (E.2.2.1 0) hC hP hS hB hl.1 (wX0_worthOf_13 r_4 v1 (0 : Int32) r_5 h_5) (xC.c0 hC) (xw_get E _ (k := 0) (by decide)) (cwV 2 hts lkX0_303 rfl rfl rfl cdX0_worthOf ⟨Nat.le_of_ble_eq_true rfl, Nat.le_of_ble_eq_true rfl⟩) rfl rfl (lv_room (Nat.le_of_ble_eq_true rfl)) ⟨Nat.le_of_eq (Nat.zero_add _), Nat.le_of_eq (Nat.zero_add _)⟩ dX0_best_35 (fun H locs cells slots hP hS hB => ?_)
    show W p l e _ s m args below meth c H locs cells slots _ (F0 m _ ls (.long r_5.1 :: []))
    refine lv_lstore (lv' := [(6, .long r_5.1), (0, .ref (E.2.2.1 0)), (1, .int v1), (2, .int a.1), (3, .long a.2.1), (5, .int a.2.2.1)]) hx hb dX0_best_38 hl (Nat.le_of_ble_eq_true rfl) rfl (fun ls hl => ?_)
    refine lv_lload hx hb dX0_best_40 (lv_at hl 0 rfl) ?_
    refine lv_lload_n hx hb dX0_best_42 rfl (lv_at hl 4 rfl) ?_
    refine W.lcmp hx hb dX0_best_43 ?_
    refine lv_if_gt (tgt := 50) hx hb dX0_best_44 (by decide) (fun c_6 => ?_) (fun c_6 => ?_)
    · have hE := ip c_6 hE
      refine lv_iload hx hb dX0_best_50 (lv_at hl 5 rfl) ?_
      refine lv_istore_n (lv' := [(2, .int a.2.2.1), (6, .long r_5.1), (0, .ref (E.2.2.1 0)), (1, .int v1), (3, .long a.2.1), (5, .int a.2.2.1)]) hx hb dX0_best_52 rfl hl (Nat.le_of_ble_eq_true rfl) rfl (fun ls hl => ?_)
      refine lv_lload hx hb dX0_best_53 (lv_at hl 1 rfl) ?_
      refine lv_lstore_n (lv' := [(3, .long r_5.1), (2, .int a.2.2.1), (6, .long r_5.1), (0, .ref (E.2.2.1 0)), (1, .int v1), (5, .int a.2.2.1)]) hx hb dX0_best_55 rfl hl (Nat.le_of_ble_eq_true rfl) rfl (fun ls hl => ?_)
      refine lv_iinc (v := (a.2.2.1 + (1 : Int32))) (lv' := [(5, .int (a.2.2.1 + (1 : Int32))), (3, .long r_5.1), (2, .int a.2.2.1), (6, .long r_5.1), (0, .ref (E.2.2.1 0)), (1, .int v1)]) hx hb dX0_best_56 hl (k := 5) rfl rfl (Nat.le_of_ble_eq_true rfl) rfl (fun ls hl => ?_)
      refine lv_goto (tgt := 19) hx hb dX0_best_59 (by decide) ?_
      exact hc _ (Option.some.inj hE).symm H locs cells slots ls hP hS hB (lv_sub hl [4, 5, 2, 1, 0] rfl)
    · have hE := iq c_6 hE
      refine lv_goto (tgt := 56) hx hb dX0_best_47 (by decide) ?_
      refine lv_iinc (v := (a.2.2.1 + (1 : Int32))) (lv' := [(5, .int (a.2.2.1 + (1 : Int32))), (6, .long r_5.1), (0, .ref (E.2.2.1 0)), (1, .int v1), (2, .int a.1), (3, .long a.2.1)]) hx hb dX0_best_56 hl (k := 5) rfl rfl (Nat.le_of_ble_eq_true rfl) rfl (fun ls hl => ?_)
      refine lv_goto (tgt := 19) hx hb dX0_best_59 (by decide) ?_
      exact hc _ (Option.some.inj hE).symm H locs cells slots ls hP hS hB (lv_sub hl [2, 3, 4, 5, 0] rfl)
noncomputable def fX0_best (k : Nat) (V : XV) (z : XS) (x1 : Int32) : Option (Int32 × XS) := (fX0_isChild z x1).bind fun r_1 => if r_1 = 0 then (some ((-1 : Int32), z)) else ((lpo (fX0_best_B19 k V x1) k ((-1 : Int32), (-1 : Int64), (0 : Int32), z)).bind fun x_7 => some (x_7.1, x_7.2))
set_option maxHeartbeats 1000000 in
theorem wX0_best {l : Launch} {E : XE} (k : Nat) (z : XS) (x1 : Int32) (y : Int32 × XS) (hE : fX0_best k E.2.2.2.2.2 z x1 = some y) : xM l yX0_best (ws_ yX0_best cX0_best 8 (some .int)) rmX0_best E z [.ref (E.2.2.1 0), .int x1] (some (.int y.1)) y.2 := by
  refine x_met (own := RX0) (by decide) rfl (Nat.le_of_ble_eq_true rfl) (fun p e s m args below meth c hC => ?_)
  intro H locs cells slots ls hP hS hB hl
  have hx := hC.1
  have hb := hC.2.1
  have hown := hC.2.2.2.2.2.1
  have hts := hC.2.2.2.2.2.2.1
  have hl : lv_has ls 8 [(0, .ref (E.2.2.1 0)), (1, .int x1)] := hl
  unfold fX0_best at hE
  refine lv_aload_n hx hb dX0_best_0 rfl (lv_at hl 0 rfl) ?_
  refine lv_iload_n hx hb dX0_best_1 rfl (lv_at hl 1 rfl) ?_
  obtain ⟨r_1, h_1, hE⟩ := ob hE
  refine x_callV (rc1 := _) (rs1 := _) [.int x1] (E.2.2.1 0) hC hP hS hB hl.1 (wX0_isChild z x1 r_1 h_1) (xC.c0 hC) (xw_get E _ (k := 0) (by decide)) (cwV 1 hts lkX0_159 rfl rfl rfl cdX0_isChild ⟨Nat.le_of_ble_eq_true rfl, Nat.le_of_ble_eq_true rfl⟩) rfl rfl (lv_room (Nat.le_of_ble_eq_true rfl)) ⟨Nat.le_of_eq (Nat.zero_add _), Nat.le_of_eq (Nat.zero_add _)⟩ dX0_best_2 (fun H locs cells slots hP hS hB => ?_)
  show W p l e _ s m args below meth c H locs cells slots _ (F0 m _ ls (.int r_1 :: []))
  refine lv_if_ne (tgt := 10) hx hb dX0_best_5 (by decide) (fun c_2 => ?_) (fun c_2 => ?_)
  · have hE := iq c_2 hE
    refine lv_iconst (v := -1) hx hb dX0_best_10 (by decide) ?_
    refine lv_istore_n (lv' := [(2, .int (-1 : Int32)), (0, .ref (E.2.2.1 0)), (1, .int x1)]) hx hb dX0_best_11 rfl hl (Nat.le_of_ble_eq_true rfl) rfl (fun ls hl => ?_)
    refine lv_ldc2 (v := -1) hx hb hown (hts _ q1144) dX0_best_12 ?_
    refine lv_lstore_n (lv' := [(3, .long (-1 : Int64)), (2, .int (-1 : Int32)), (0, .ref (E.2.2.1 0)), (1, .int x1)]) hx hb dX0_best_15 rfl hl (Nat.le_of_ble_eq_true rfl) rfl (fun ls hl => ?_)
    refine lv_iconst (v := 0) hx hb dX0_best_16 (by decide) ?_
    refine lv_istore (lv' := [(5, .int (0 : Int32)), (3, .long (-1 : Int64)), (2, .int (-1 : Int32)), (0, .ref (E.2.2.1 0)), (1, .int x1)]) hx hb dX0_best_17 hl (Nat.le_of_ble_eq_true rfl) rfl (fun ls hl => ?_)
    obtain ⟨x_7, h_7, hE⟩ := ob hE
    refine lpo_walk (fun p_7 : Int32 × Int64 × Int32 × XS => xW p l e rmX0_best s m args below meth c E 8 (xQ E rmX0_best below args s (some (.int y.1)) y.2) 0 0 19 [(0, .ref (E.2.2.1 0)), (1, .int x1), (2, .int p_7.1), (3, .long p_7.2.1), (5, .int p_7.2.2.1)] [] p_7.2.2.2) (fun q_7 : Int32 × XS => xW p l e rmX0_best s m args below meth c E 8 (xQ E rmX0_best below args s (some (.int y.1)) y.2) 0 0 62 [(2, .int q_7.1)] [] q_7.2) (fun a_7 y_7 hB_7 hc_7 hx_7 => wX0_best_B19 k x1 hC a_7 y_7 hB_7 hc_7 hx_7) _ _ x_7 h_7 ?_ H locs cells slots ls hP hS hB (lv_sub hl [3, 4, 2, 1, 0] rfl)
    intro H locs cells slots ls hP hS hB hl
    refine lv_iload_n hx hb dX0_best_62 rfl (lv_at hl 0 rfl) ?_
    obtain rfl := Option.some.inj hE
    exact x_iret hC hP hS hB dX0_best_63
  · have hE := ip c_2 hE
    refine lv_iconst (v := -1) hx hb dX0_best_8 (by decide) ?_
    obtain rfl := Option.some.inj hE
    exact x_iret hC hP hS hB dX0_best_9
noncomputable def fX1_clears (z : XS) (x1 : Int32) : Option (Int32 × XS) := if ib x1 6 then none else (nm (xA z 8 (upd (z.2.1 8) x1.toNatClampNeg (0 : Int32))) fun z_1 => some ((0 : Int32), z_1))
set_option maxHeartbeats 1000000 in
theorem wX1_clears {l : Launch} {E : XE} (z : XS) (x1 : Int32) (y : Int32 × XS) (hE : fX1_clears z x1 = some y) : xM l yX1_clears (ws_ yX1_clears cX1_clears 2 (some .int)) rmX1_clears E z [.ref (E.2.2.1 1), .int x1] (some (.int y.1)) y.2 := by
  refine x_met (own := RX1) (by decide) rfl (Nat.le_of_ble_eq_true rfl) (fun p e s m args below meth c hC => ?_)
  intro H locs cells slots ls hP hS hB hl
  have hx := hC.1
  have hb := hC.2.1
  have hown := hC.2.2.2.2.2.1
  have hts := hC.2.2.2.2.2.2.1
  have hl : lv_has ls 2 [(0, .ref (E.2.2.1 1)), (1, .int x1)] := hl
  unfold fX1_clears at hE
  refine lv_aload_n hx hb dX1_clears_0 rfl (lv_at hl 0 rfl) ?_
  refine gS_9_1 hC hP dX1_clears_1 ?_
  refine lv_iload_n hx hb dX1_clears_4 rfl (lv_at hl 1 rfl) ?_
  refine lv_iconst (v := 0) hx hb dX1_clears_5 (by decide) ?_
  obtain ⟨c_1, hE⟩ := og hE
  obtain ⟨z_1, ez_1, hE⟩ := on hE
  refine x_iast hC hP hS (⟨by decide, rfl, rfl⟩ : xint 8 6) c_1 ez_1 dX1_clears_6 (fun H locs hP hS => ?_)
  refine lv_iconst (v := 0) hx hb dX1_clears_7 (by decide) ?_
  obtain rfl := Option.some.inj hE
  exact x_iret hC hP hS hB dX1_clears_8
noncomputable def fX1_adds_13 (z : XS) (x2 : Int32) (x3 : Int32) (x4 : Int32) (x5 : Int32) : Option (Int32 × XS) := nm (upd (fun _ => 0) (0 : Int32).toNatClampNeg x3) fun f_2 => nm (upd f_2 (1 : Int32).toNatClampNeg x4) fun f_3 => nm (upd f_3 (2 : Int32).toNatClampNeg x5) fun f_4 => if ib x2 6 then none else (if ib (z.2.1 8 x2.toNatClampNeg) 6 then none else (nm (xA z (56 + (z.2.1 8 x2.toNatClampNeg).toNatClampNeg) (va_cpy f_4 (z.2.1 (56 + (z.2.1 8 x2.toNatClampNeg).toNatClampNeg)) 0 0 3)) fun z_7 => if ib x2 6 then none else (if ib x2 6 then none else (nm (xA z_7 8 (upd (z_7.2.1 8) x2.toNatClampNeg ((z_7.2.1 8 x2.toNatClampNeg) + (1 : Int32)))) fun z_9 => if ib x2 6 then none else (some ((z_9.2.1 8 x2.toNatClampNeg), z_9))))))
set_option maxHeartbeats 1000000 in
theorem wX1_adds_13 {l : Launch} {E : XE} (z : XS) (x2 : Int32) (x3 : Int32) (x4 : Int32) (x5 : Int32) (y : Int32 × XS) (hE : fX1_adds_13 z x2 x3 x4 x5 = some y) : xM l yX1_adds (ws_ yX1_adds cX1_adds 7 (some .int)) rmX1_adds_13 E z [.ref (E.2.2.1 1), .ref (E.2.2.1 13), .int x2, .int x3, .int x4, .int x5] (some (.int y.1)) y.2 := by
  refine x_met (own := RX1) (by decide) rfl (Nat.le_of_ble_eq_true rfl) (fun p e s m args below meth c hC => ?_)
  intro H locs cells slots ls hP hS hB hl
  have hx := hC.1
  have hb := hC.2.1
  have hown := hC.2.2.2.2.2.1
  have hts := hC.2.2.2.2.2.2.1
  have hl : lv_has ls 7 [(0, .ref (E.2.2.1 1)), (1, .ref (E.2.2.1 13)), (2, .int x2), (3, .int x3), (4, .int x4), (5, .int x5)] := hl
  unfold fX1_adds_13 at hE
  refine lv_iconst (v := 3) hx hb dX1_adds_0 (by decide) ?_
  refine t_new (rc1 := 0) (rs1 := 0) (n := 3) hC hP hS hB (by decide) rfl (by decide) ⟨Nat.le_of_ble_eq_true rfl, Nat.le_of_ble_eq_true rfl⟩ dX1_adds_1 (fun q_1 H cells slots hP hS hB hT => ?_)
  refine lv_dup hx hb dX1_adds_3 rfl ?_
  refine lv_iconst (v := 0) hx hb dX1_adds_4 (by decide) ?_
  refine lv_iload_n hx hb dX1_adds_5 rfl (lv_at hl 3 rfl) ?_
  obtain ⟨f_2, ef_2, hE⟩ := on hE
  refine t_ast hC hP hS hT (i := (0 : Int32)) (by decide) ef_2 dX1_adds_6 (fun H locs hP hS hT => ?_)
  refine lv_dup hx hb dX1_adds_7 rfl ?_
  refine lv_iconst (v := 1) hx hb dX1_adds_8 (by decide) ?_
  refine lv_iload hx hb dX1_adds_9 (lv_at hl 4 rfl) ?_
  obtain ⟨f_3, ef_3, hE⟩ := on hE
  refine t_ast hC hP hS hT (i := (1 : Int32)) (by decide) ef_3 dX1_adds_11 (fun H locs hP hS hT => ?_)
  refine lv_dup hx hb dX1_adds_12 rfl ?_
  refine lv_iconst (v := 2) hx hb dX1_adds_13 (by decide) ?_
  refine lv_iload hx hb dX1_adds_14 (lv_at hl 5 rfl) ?_
  obtain ⟨f_4, ef_4, hE⟩ := on hE
  refine t_ast hC hP hS hT (i := (2 : Int32)) (by decide) ef_4 dX1_adds_16 (fun H locs hP hS hT => ?_)
  refine lv_astore (lv' := [(6, .ref q_1), (0, .ref (E.2.2.1 1)), (1, .ref (E.2.2.1 13)), (2, .int x2), (3, .int x3), (4, .int x4), (5, .int x5)]) hx hb dX1_adds_17 hl (Nat.le_of_ble_eq_true rfl) rfl (fun ls hl => ?_)
  refine lv_aload hx hb dX1_adds_19 (lv_at hl 0 rfl) ?_
  refine lv_aload_n hx hb dX1_adds_21 rfl (lv_at hl 2 rfl) ?_
  refine lv_aload_n hx hb dX1_adds_22 rfl (lv_at hl 1 rfl) ?_
  refine gS_9_1 hC hP dX1_adds_23 ?_
  refine lv_iload_n hx hb dX1_adds_26 rfl (lv_at hl 3 rfl) ?_
  obtain ⟨c_5, hE⟩ := og hE
  refine x_iald hC hP (⟨by decide, rfl, rfl⟩ : xint 8 6) c_5 dX1_adds_27 ?_
  obtain ⟨c_6, hE⟩ := og hE
  refine x_aald hC hP xo_13 c_6 dX1_adds_28 ?_
  obtain ⟨z_7, ez_7, hE⟩ := on hE
  refine t_callcopy hC hP hS hB hT hl.1 (xrow xo_13 c_6) (by decide) ez_7 (va_cwS 2 hts lkX1_56 rfl rfl rfl cdX1_copy ⟨Nat.le_of_ble_eq_true rfl, Nat.le_of_ble_eq_true rfl⟩) (lv_room (Nat.le_of_ble_eq_true rfl)) dX1_adds_29 (fun H locs hP hS => ?_)
  refine lv_aload_n hx hb dX1_adds_32 rfl (lv_at hl 1 rfl) ?_
  refine gS_9_1 hC hP dX1_adds_33 ?_
  refine lv_iload_n hx hb dX1_adds_36 rfl (lv_at hl 3 rfl) ?_
  refine lv_dup2_11 hx hb dX1_adds_37 rfl rfl ?_
  obtain ⟨c_8, hE⟩ := og hE
  refine x_iald hC hP (⟨by decide, rfl, rfl⟩ : xint 8 6) c_8 dX1_adds_38 ?_
  refine lv_iconst (v := 1) hx hb dX1_adds_39 (by decide) ?_
  refine lv_iadd hx hb dX1_adds_40 ?_
  obtain ⟨c_9, hE⟩ := og hE
  obtain ⟨z_9, ez_9, hE⟩ := on hE
  refine x_iast hC hP hS (⟨by decide, rfl, rfl⟩ : xint 8 6) c_9 ez_9 dX1_adds_41 (fun H locs hP hS => ?_)
  refine lv_aload_n hx hb dX1_adds_42 rfl (lv_at hl 1 rfl) ?_
  refine gS_9_1 hC hP dX1_adds_43 ?_
  refine lv_iload_n hx hb dX1_adds_46 rfl (lv_at hl 3 rfl) ?_
  obtain ⟨c_10, hE⟩ := og hE
  refine x_iald hC hP (⟨by decide, rfl, rfl⟩ : xint 8 6) c_10 dX1_adds_47 ?_
  obtain rfl := Option.some.inj hE
  exact x_iret hC hP hS hB dX1_adds_48
noncomputable def fX0_tell (z : XS) (x1 : Int32) (x2 : Int32) (x3 : Int32) : Option (Int32 × XS) := if x1 = (-1 : Int32) then ((fX1_clears z (4 : Int32)).bind fun r_11 => some (r_11.1, r_11.2)) else ((fX0_in x1 (0 : Int32) (11 : Int32)).bind fun r_2 => if r_2 = 0 then (some ((-2 : Int32), z)) else ((fX0_in x2 (1 : Int32) ((12 : Int32) - x1)).bind fun r_4 => if r_4 = 0 then (some ((-2 : Int32), z)) else ((fX0_in x3 (0 : Int32) (12 : Int32)).bind fun r_6 => if r_6 = 0 then (some ((-2 : Int32), z)) else (if (z.2.1 8 (4 : Int32).toNatClampNeg) = (6 : Int32) then (some ((-2 : Int32), z)) else ((fX1_adds_13 z (4 : Int32) x1 x2 x3).bind fun r_10 => some (r_10.1, r_10.2))))))
set_option maxHeartbeats 1000000 in
theorem wX0_tell {l : Launch} {E : XE} (z : XS) (x1 : Int32) (x2 : Int32) (x3 : Int32) (y : Int32 × XS) (hE : fX0_tell z x1 x2 x3 = some y) : xM l yX0_tell (ws_ yX0_tell cX0_tell 4 (some .int)) rmX0_tell E z [.ref (E.2.2.1 0), .int x1, .int x2, .int x3] (some (.int y.1)) y.2 := by
  refine x_met (own := RX0) (by decide) rfl (Nat.le_of_ble_eq_true rfl) (fun p e s m args below meth c hC => ?_)
  intro H locs cells slots ls hP hS hB hl
  have hx := hC.1
  have hb := hC.2.1
  have hown := hC.2.2.2.2.2.1
  have hts := hC.2.2.2.2.2.2.1
  have hl : lv_has ls 4 [(0, .ref (E.2.2.1 0)), (1, .int x1), (2, .int x2), (3, .int x3)] := hl
  unfold fX0_tell at hE
  refine lv_iload_n hx hb dX0_tell_0 rfl (lv_at hl 1 rfl) ?_
  refine lv_iconst (v := -1) hx hb dX0_tell_1 (by decide) ?_
  refine lv_icmp_ne (tgt := 14) hx hb dX0_tell_2 (by decide) (fun c_1 => ?_) (fun c_1 => ?_)
  · have hE := iq c_1 hE
    refine lv_iload_n hx hb dX0_tell_14 rfl (lv_at hl 1 rfl) ?_
    refine lv_iconst (v := 0) hx hb dX0_tell_15 (by decide) ?_
    refine lv_bipush (v := 11) hx hb dX0_tell_16 (by decide) ?_
    obtain ⟨r_2, h_2, hE⟩ := ob hE
    refine s_calli [.int x1, .int (0 : Int32), .int (11 : Int32)] hC.sC hl.1 (wX0_in x1 (0 : Int32) (11 : Int32) r_2 h_2) (va_cwS 3 hts lkX0_58 rfl rfl rfl cdX0_in ⟨Nat.le_of_ble_eq_true rfl, Nat.le_of_ble_eq_true rfl⟩) rfl rfl (lv_room (Nat.le_of_ble_eq_true rfl)) (hB0 hB) dX0_tell_18 ?_
    refine lv_if_eq (tgt := 60) hx hb dX0_tell_21 (by decide) (fun c_3 => ?_) (fun c_3 => ?_)
    · have hE := ip c_3 hE
      refine lv_bipush (v := -2) hx hb dX0_tell_60 (by decide) ?_
      obtain rfl := Option.some.inj hE
      exact x_iret hC hP hS hB dX0_tell_62
    · have hE := iq c_3 hE
      refine lv_iload_n hx hb dX0_tell_24 rfl (lv_at hl 2 rfl) ?_
      refine lv_iconst (v := 1) hx hb dX0_tell_25 (by decide) ?_
      refine lv_bipush (v := 12) hx hb dX0_tell_26 (by decide) ?_
      refine lv_iload_n hx hb dX0_tell_28 rfl (lv_at hl 1 rfl) ?_
      refine lv_isub hx hb dX0_tell_29 ?_
      obtain ⟨r_4, h_4, hE⟩ := ob hE
      refine s_calli [.int x2, .int (1 : Int32), .int ((12 : Int32) - x1)] hC.sC hl.1 (wX0_in x2 (1 : Int32) ((12 : Int32) - x1) r_4 h_4) (va_cwS 3 hts lkX0_58 rfl rfl rfl cdX0_in ⟨Nat.le_of_ble_eq_true rfl, Nat.le_of_ble_eq_true rfl⟩) rfl rfl (lv_room (Nat.le_of_ble_eq_true rfl)) (hB0 hB) dX0_tell_30 ?_
      refine lv_if_eq (tgt := 60) hx hb dX0_tell_33 (by decide) (fun c_5 => ?_) (fun c_5 => ?_)
      · have hE := ip c_5 hE
        refine lv_bipush (v := -2) hx hb dX0_tell_60 (by decide) ?_
        obtain rfl := Option.some.inj hE
        exact x_iret hC hP hS hB dX0_tell_62
      · have hE := iq c_5 hE
        refine lv_iload_n hx hb dX0_tell_36 rfl (lv_at hl 3 rfl) ?_
        refine lv_iconst (v := 0) hx hb dX0_tell_37 (by decide) ?_
        refine lv_bipush (v := 12) hx hb dX0_tell_38 (by decide) ?_
        obtain ⟨r_6, h_6, hE⟩ := ob hE
        refine s_calli [.int x3, .int (0 : Int32), .int (12 : Int32)] hC.sC hl.1 (wX0_in x3 (0 : Int32) (12 : Int32) r_6 h_6) (va_cwS 3 hts lkX0_58 rfl rfl rfl cdX0_in ⟨Nat.le_of_ble_eq_true rfl, Nat.le_of_ble_eq_true rfl⟩) rfl rfl (lv_room (Nat.le_of_ble_eq_true rfl)) (hB0 hB) dX0_tell_40 ?_
        refine lv_if_eq (tgt := 60) hx hb dX0_tell_43 (by decide) (fun c_7 => ?_) (fun c_7 => ?_)
        · have hE := ip c_7 hE
          refine lv_bipush (v := -2) hx hb dX0_tell_60 (by decide) ?_
          obtain rfl := Option.some.inj hE
          exact x_iret hC hP hS hB dX0_tell_62
        · have hE := iq c_7 hE
          refine lv_aload_n hx hb dX0_tell_46 rfl (lv_at hl 0 rfl) ?_
          refine gX_21 hC hP dX0_tell_47 ?_
          refine gN_62_1 hC hP dX0_tell_50 ?_
          refine lv_iconst (v := 4) hx hb dX0_tell_53 (by decide) ?_
          refine x_iald hC hP (⟨by decide, rfl, rfl⟩ : xint 8 6) (i := (4 : Int32)) (by decide) dX0_tell_54 ?_
          refine lv_bipush (v := 6) hx hb dX0_tell_55 (by decide) ?_
          refine lv_icmp_ne (tgt := 63) hx hb dX0_tell_57 (by decide) (fun c_9 => ?_) (fun c_9 => ?_)
          · have hE := iq c_9 hE
            refine lv_aload_n hx hb dX0_tell_63 rfl (lv_at hl 0 rfl) ?_
            refine gX_21 hC hP dX0_tell_64 ?_
            refine lv_aload_n hx hb dX0_tell_67 rfl (lv_at hl 0 rfl) ?_
            refine gX_21 hC hP dX0_tell_68 ?_
            refine gN_316_1 hC hP dX0_tell_71 ?_
            refine lv_iconst (v := 4) hx hb dX0_tell_74 (by decide) ?_
            refine lv_iload_n hx hb dX0_tell_75 rfl (lv_at hl 1 rfl) ?_
            refine lv_iload_n hx hb dX0_tell_76 rfl (lv_at hl 2 rfl) ?_
            refine lv_iload_n hx hb dX0_tell_77 rfl (lv_at hl 3 rfl) ?_
            obtain ⟨r_10, h_10, hE⟩ := ob hE
            refine x_callV (rc1 := 0) (rs1 := 0) [.ref (E.2.2.1 13), .int (4 : Int32), .int x1, .int x2, .int x3] (E.2.2.1 1) hC hP hS hB hl.1 (wX1_adds_13 z (4 : Int32) x1 x2 x3 r_10 h_10) (xC.c1 hC) (xw_get E _ (k := 1) (by decide)) (cwV 5 hts lkX0_319 rfl rfl rfl cdX1_adds ⟨Nat.le_of_ble_eq_true rfl, Nat.le_of_ble_eq_true rfl⟩) rfl rfl (lv_room (Nat.le_of_ble_eq_true rfl)) ⟨Nat.le_of_ble_eq_true rfl, Nat.le_of_ble_eq_true rfl⟩ dX0_tell_78 (fun H locs cells slots hP hS hB => ?_)
            show W p l e _ s m args below meth c H locs cells slots _ (F0 m _ ls (.int r_10.1 :: []))
            obtain rfl := Option.some.inj hE
            exact x_iret hC hP hS hB dX0_tell_81
          · have hE := ip c_9 hE
            refine lv_bipush (v := -2) hx hb dX0_tell_60 (by decide) ?_
            obtain rfl := Option.some.inj hE
            exact x_iret hC hP hS hB dX0_tell_62
  · have hE := ip c_1 hE
    refine lv_aload_n hx hb dX0_tell_5 rfl (lv_at hl 0 rfl) ?_
    refine gX_21 hC hP dX0_tell_6 ?_
    refine lv_iconst (v := 4) hx hb dX0_tell_9 (by decide) ?_
    obtain ⟨r_11, h_11, hE⟩ := ob hE
    refine x_callV (rc1 := _) (rs1 := _) [.int (4 : Int32)] (E.2.2.1 1) hC hP hS hB hl.1 (wX1_clears z (4 : Int32) r_11 h_11) (xC.c1 hC) (xw_get E _ (k := 1) (by decide)) (cwV 1 hts lkX0_313 rfl rfl rfl cdX1_clears ⟨Nat.le_of_ble_eq_true rfl, Nat.le_of_ble_eq_true rfl⟩) rfl rfl (lv_room (Nat.le_of_ble_eq_true rfl)) ⟨Nat.le_of_eq (Nat.zero_add _), Nat.le_of_eq (Nat.zero_add _)⟩ dX0_tell_10 (fun H locs cells slots hP hS hB => ?_)
    show W p l e _ s m args below meth c H locs cells slots _ (F0 m _ ls (.int r_11.1 :: []))
    obtain rfl := Option.some.inj hE
    exact x_iret hC hP hS hB dX0_tell_13
noncomputable def fX0_canBe_B2 (k : Nat) (v1 : Int32) (v2 : Int32) (w : XS) (a : Int32) : Option (Int32 ⊕ (Unit ⊕ Unit)) := if (w.2.1 8 (4 : Int32).toNatClampNeg) ≤ a then (some (.inr (.inl ()))) else (if ib a 6 then none else ((fX0_barsOf v1 (w.2.1 (56 + a.toNatClampNeg) (0 : Int32).toNatClampNeg) (w.2.1 (56 + a.toNatClampNeg) (1 : Int32).toNatClampNeg)).bind fun r_6 => if (if 0 ≤ (r_6 - (w.2.1 (56 + a.toNatClampNeg) (2 : Int32).toNatClampNeg)) then (r_6 - (w.2.1 (56 + a.toNatClampNeg) (2 : Int32).toNatClampNeg)) else 0 - (r_6 - (w.2.1 (56 + a.toNatClampNeg) (2 : Int32).toNatClampNeg))) ≤ v2 then (some (.inl (a + (1 : Int32)))) else (some (.inr (.inr ())))))
set_option maxHeartbeats 1000000 in
theorem wX0_canBe_B2 {p : Program} {l : Launch} {e : Env} {s : State} {m : MethodId} {args : Array Value} {below : List Frame} {meth : Method} {c : Code} {E : XE} {Q : State → Prop} (k : Nat) (v1 : Int32) (v2 : Int32) (w : XS) (hC : xC E RX0 cX0_canBe 5 (some .boolean) p s m args meth c) (a : Int32) (y : Int32 ⊕ (Unit ⊕ Unit)) (hE : fX0_canBe_B2 k v1 v2 w a = some y) (hc : ∀ a : Int32, y = .inl a → xW p l e rmX0_canBe s m args below meth c E 5 Q 0 0 2 [(0, .ref (E.2.2.1 0)), (1, .int v1), (2, .int v2), (3, .int a)] [] w) (hx1 : ∀ b : Unit, y = .inr (.inl b) → xW p l e rmX0_canBe s m args below meth c E 5 Q 0 0 58 [] [] w) (hx2 : ∀ b : Unit, y = .inr (.inr b) → xW p l e rmX0_canBe s m args below meth c E 5 Q 0 0 50 [] [] w) : xW p l e rmX0_canBe s m args below meth c E 5 Q 0 0 2 [(0, .ref (E.2.2.1 0)), (1, .int v1), (2, .int v2), (3, .int a)] [] w := by
  intro H locs cells slots ls hP hS hB hl
  have hx := hC.1
  have hb := hC.2.1
  have hown := hC.2.2.2.2.2.1
  have hts := hC.2.2.2.2.2.2.1
  unfold fX0_canBe_B2 at hE
  refine lv_iload_n hx hb dX0_canBe_2 rfl (lv_at hl 3 rfl) ?_
  refine lv_aload_n hx hb dX0_canBe_3 rfl (lv_at hl 0 rfl) ?_
  refine gX_21 hC hP dX0_canBe_4 ?_
  refine gN_62_1 hC hP dX0_canBe_7 ?_
  refine lv_iconst (v := 4) hx hb dX0_canBe_10 (by decide) ?_
  refine x_iald hC hP (⟨by decide, rfl, rfl⟩ : xint 8 6) (i := (4 : Int32)) (by decide) dX0_canBe_11 ?_
  refine lv_icmp_ge (tgt := 58) hx hb dX0_canBe_12 (by decide) (fun c_2 => ?_) (fun c_2 => ?_)
  · have hE := ip c_2 hE
    exact hx1 _ (Option.some.inj hE).symm H locs cells slots ls hP hS hB (lv_sub hl [] rfl)
  · have hE := iq c_2 hE
    refine lv_aload_n hx hb dX0_canBe_15 rfl (lv_at hl 0 rfl) ?_
    refine gX_21 hC hP dX0_canBe_16 ?_
    refine gN_316_1 hC hP dX0_canBe_19 ?_
    refine lv_iload_n hx hb dX0_canBe_22 rfl (lv_at hl 3 rfl) ?_
    obtain ⟨c_3, hE⟩ := og hE
    refine x_aald hC hP xo_13 c_3 dX0_canBe_23 ?_
    refine lv_astore (lv' := [(4, .ref (E.2.2.1 (56 + a.toNatClampNeg))), (0, .ref (E.2.2.1 0)), (1, .int v1), (2, .int v2), (3, .int a)]) hx hb dX0_canBe_24 hl (Nat.le_of_ble_eq_true rfl) rfl (fun ls hl => ?_)
    refine lv_iload_n hx hb dX0_canBe_26 rfl (lv_at hl 2 rfl) ?_
    refine lv_aload hx hb dX0_canBe_27 (lv_at hl 0 rfl) ?_
    refine lv_iconst (v := 0) hx hb dX0_canBe_29 (by decide) ?_
    refine x_iald hC hP (xrow xo_13 c_3) (i := (0 : Int32)) (by decide) dX0_canBe_30 ?_
    refine lv_aload hx hb dX0_canBe_31 (lv_at hl 0 rfl) ?_
    refine lv_iconst (v := 1) hx hb dX0_canBe_33 (by decide) ?_
    refine x_iald hC hP (xrow xo_13 c_3) (i := (1 : Int32)) (by decide) dX0_canBe_34 ?_
    obtain ⟨r_6, h_6, hE⟩ := ob hE
    refine s_calli [.int v1, .int (w.2.1 (56 + a.toNatClampNeg) (0 : Int32).toNatClampNeg), .int (w.2.1 (56 + a.toNatClampNeg) (1 : Int32).toNatClampNeg)] hC.sC hl.1 (wX0_barsOf v1 (w.2.1 (56 + a.toNatClampNeg) (0 : Int32).toNatClampNeg) (w.2.1 (56 + a.toNatClampNeg) (1 : Int32).toNatClampNeg) r_6 h_6) (va_cwS 3 hts lkX0_327 rfl rfl rfl cdX0_barsOf ⟨Nat.le_of_ble_eq_true rfl, Nat.le_of_ble_eq_true rfl⟩) rfl rfl (lv_room (Nat.le_of_ble_eq_true rfl)) (hB0 hB) dX0_canBe_35 ?_
    refine lv_aload hx hb dX0_canBe_38 (lv_at hl 0 rfl) ?_
    refine lv_iconst (v := 2) hx hb dX0_canBe_40 (by decide) ?_
    refine x_iald hC hP (xrow xo_13 c_3) (i := (2 : Int32)) (by decide) dX0_canBe_41 ?_
    refine lv_isub hx hb dX0_canBe_42 ?_
    refine va_mabs hx hb (hC.2.2.2.2.1.trans hl.1.symm) hown (hts _ q1241) (hts _ q1242) (hts _ q135) (hts _ q1243) (Nat.le_of_ble_eq_true rfl) (Nat.le_of_ble_eq_true rfl) (Nat.le_trans (Nat.le_add_right _ _) hB.1) (Nat.le_trans (Nat.le_add_right _ _) hB.2) dX0_canBe_43 ?_
    refine lv_iload_n hx hb dX0_canBe_46 rfl (lv_at hl 3 rfl) ?_
    refine lv_icmp_le (tgt := 52) hx hb dX0_canBe_47 (by decide) (fun c_9 => ?_) (fun c_9 => ?_)
    · have hE := ip c_9 hE
      refine lv_iinc (v := (a + (1 : Int32))) (lv' := [(3, .int (a + (1 : Int32))), (4, .ref (E.2.2.1 (56 + a.toNatClampNeg))), (0, .ref (E.2.2.1 0)), (1, .int v1), (2, .int v2)]) hx hb dX0_canBe_52 hl (k := 4) rfl rfl (Nat.le_of_ble_eq_true rfl) rfl (fun ls hl => ?_)
      refine lv_goto (tgt := 2) hx hb dX0_canBe_55 (by decide) ?_
      exact hc _ (Option.some.inj hE).symm H locs cells slots ls hP hS hB (lv_sub hl [2, 3, 4, 0] rfl)
    · have hE := iq c_9 hE
      exact hx2 _ (Option.some.inj hE).symm H locs cells slots ls hP hS hB (lv_sub hl [] rfl)
noncomputable def fX0_canBe (k : Nat) (z : XS) (x1 : Int32) (x2 : Int32) : Option Int32 := (lpo (fX0_canBe_B2 k x1 x2 z) k (0 : Int32)).bind fun x_10 => (Sum.elim (fun t_10 : Unit => some (1 : Int32)) (fun t_10 : Unit => some (0 : Int32))) x_10
set_option maxHeartbeats 1000000 in
theorem wX0_canBe {l : Launch} {E : XE} (k : Nat) (z : XS) (x1 : Int32) (x2 : Int32) (y : Int32) (hE : fX0_canBe k z x1 x2 = some y) : xM l yX0_canBe (ws_ yX0_canBe cX0_canBe 5 (some .boolean)) rmX0_canBe E z [.ref (E.2.2.1 0), .int x1, .int x2] (some (.int y)) z := by
  refine x_met (own := RX0) (by decide) rfl (Nat.le_of_ble_eq_true rfl) (fun p e s m args below meth c hC => ?_)
  intro H locs cells slots ls hP hS hB hl
  have hx := hC.1
  have hb := hC.2.1
  have hown := hC.2.2.2.2.2.1
  have hts := hC.2.2.2.2.2.2.1
  have hl : lv_has ls 5 [(0, .ref (E.2.2.1 0)), (1, .int x1), (2, .int x2)] := hl
  unfold fX0_canBe at hE
  refine lv_iconst (v := 0) hx hb dX0_canBe_0 (by decide) ?_
  refine lv_istore_n (lv' := [(3, .int (0 : Int32)), (0, .ref (E.2.2.1 0)), (1, .int x1), (2, .int x2)]) hx hb dX0_canBe_1 rfl hl (Nat.le_of_ble_eq_true rfl) rfl (fun ls hl => ?_)
  obtain ⟨x_10, h_10, hE⟩ := ob hE
  refine lpo_walk (fun p_10 : Int32 => xW p l e rmX0_canBe s m args below meth c E 5 (xQ E rmX0_canBe below args s (some (.int y)) z) 0 0 2 [(0, .ref (E.2.2.1 0)), (1, .int x1), (2, .int x2), (3, .int p_10)] [] z) (fun q_10 : (Unit ⊕ Unit) => (∀ t_10 : Unit, q_10 = (.inl t_10) → xW p l e rmX0_canBe s m args below meth c E 5 (xQ E rmX0_canBe below args s (some (.int y)) z) 0 0 58 [] [] z) ∧ (∀ t_10 : Unit, q_10 = (.inr t_10) → xW p l e rmX0_canBe s m args below meth c E 5 (xQ E rmX0_canBe below args s (some (.int y)) z) 0 0 50 [] [] z)) (fun a_10 y_10 hB_10 hc_10 hx_10 => wX0_canBe_B2 k x1 x2 z hC a_10 y_10 hB_10 hc_10 (fun t_10 e_10 => (hx_10 _ e_10).1 t_10 rfl) (fun t_10 e_10 => (hx_10 _ e_10).2 t_10 rfl)) _ _ x_10 h_10 ?_ H locs cells slots ls hP hS hB (lv_sub hl [1, 2, 3, 0] rfl)
  refine ⟨?_, ?_⟩
  · intro t_10 e_10
    subst e_10
    have hE := oel hE
    intro H locs cells slots ls hP hS hB hl
    refine lv_iconst (v := 1) hx hb dX0_canBe_58 (by decide) ?_
    obtain rfl := Option.some.inj hE
    exact x_zret (v := (1 : Int32)) hC hP hS hB (by decide) dX0_canBe_59
  · intro t_10 e_10
    subst e_10
    have hE := oer hE
    intro H locs cells slots ls hP hS hB hl
    refine lv_iconst (v := 0) hx hb dX0_canBe_50 (by decide) ?_
    obtain rfl := Option.some.inj hE
    exact x_zret (v := (0 : Int32)) hC hP hS hB (by decide) dX0_canBe_51
