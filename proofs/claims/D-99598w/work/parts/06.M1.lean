set_option maxRecDepth 100000
def fX2_copy_0_1_B2 (k : Nat)  (a : Int32 × MS) : Option ((Int32 × MS) ⊕ MS) := if (3205 : Int32) ≤ a.1 then (some (.inr a.2)) else (if ib a.1 3205 then none else (if ib a.1 3205 then none else (nm (mA a.2 1 (upd (a.2.2.2.1 1) a.1.toNatClampNeg (a.2.2.2.1 0 a.1.toNatClampNeg))) fun z_3 => some (.inl ((a.1 + (1 : Int32)), z_3)))))
set_option maxHeartbeats 1000000 in
theorem wX2_copy_0_1_B2 {p : Program} {l : Launch} {e : Env} {s : State} {m : MethodId} {args : Array Value} {below : List Frame} {meth : Method} {c : Code} {E : ME} {Q : State → Prop} (k : Nat)  (hC : mC E cX2_copy 3 none p s m args meth c) (a : Int32 × MS) (y : (Int32 × MS) ⊕ MS) (hE : fX2_copy_0_1_B2 k  a = some y) (hc : ∀ a : Int32 × MS, y = .inl a → mW p l e rmX2_copy s m args below meth c E 3 Q 2 [(0, .ref (E.2.2.2.1 1)), (1, .ref (E.2.2.2.1 2)), (2, .int a.1)] [] a.2) (hx1 : ∀ b : MS, y = .inr b → mW p l e rmX2_copy s m args below meth c E 3 Q 21 [] [] b) : mW p l e rmX2_copy s m args below meth c E 3 Q 2 [(0, .ref (E.2.2.2.1 1)), (1, .ref (E.2.2.2.1 2)), (2, .int a.1)] [] a.2 := by
  intro H locs ls hP hS hl
  have hx := hC.1
  have hb := hC.2.1
  have hown := hC.2.2.2.2.2.1
  have hts := hC.2.2.2.2.2.2.1
  unfold fX2_copy_0_1_B2 at hE
  refine lv_iload_n hx hb dX2_copy_2 rfl (lv_at hl 2 rfl) ?_
  refine lv_sipush (v := 3205) hx hb dX2_copy_3 (by decide) ?_
  refine lv_icmp_ge (tgt := 21) hx hb dX2_copy_6 (by decide) (fun c_1 => ?_) (fun c_1 => ?_)
  · have hE := ip c_1 hE
    exact hx1 _ (Option.some.inj hE).symm H locs ls hP hS (lv_sub hl [] rfl)
  · have hE := iq c_1 hE
    refine lv_aload_n hx hb dX2_copy_9 rfl (lv_at hl 1 rfl) ?_
    refine lv_iload_n hx hb dX2_copy_10 rfl (lv_at hl 2 rfl) ?_
    refine lv_aload_n hx hb dX2_copy_11 rfl (lv_at hl 0 rfl) ?_
    refine lv_iload_n hx hb dX2_copy_12 rfl (lv_at hl 2 rfl) ?_
    obtain ⟨c_2, hE⟩ := og hE
    refine aM_0 hC hP c_2 dX2_copy_13 ?_
    obtain ⟨c_3, hE⟩ := og hE
    obtain ⟨z_3, ez_3, hE⟩ := on hE
    refine tM_1 hC hP hS c_3 ez_3 dX2_copy_14 (fun H locs hP hS => ?_)
    refine lv_iinc (v := (a.1 + (1 : Int32))) (lv' := [(2, .int (a.1 + (1 : Int32))), (0, .ref (E.2.2.2.1 1)), (1, .ref (E.2.2.2.1 2))]) hx hb dX2_copy_15 hl (k := 2) rfl rfl (Nat.le_of_ble_eq_true rfl) rfl (fun ls hl => ?_)
    refine lv_goto (tgt := 2) hx hb dX2_copy_18 (by decide) ?_
    exact hc _ (Option.some.inj hE).symm H locs ls hP hS (lv_sub hl [1, 2, 0] rfl)
def fX2_copy_0_1 (k : Nat) (z : MS)  : Option MS := (lpo (fX2_copy_0_1_B2 k ) k ((0 : Int32), z)).bind fun x_4 => some x_4
set_option maxHeartbeats 1000000 in
theorem wX2_copy_0_1 {l : Launch} {E : ME} (k : Nat) (z : MS)  (y : MS) (hE : fX2_copy_0_1 k z  = some y) : nM l yX2_copy (ws_ yX2_copy cX2_copy 3 none) rmX2_copy E z [.ref (E.2.2.2.1 1), .ref (E.2.2.2.1 2)] none y := by
  refine n_met (by decide) rfl (Nat.le_of_ble_eq_true rfl) (fun p e s m args below meth c hC => ?_)
  intro H locs ls hP hS hl
  have hx := hC.1
  have hb := hC.2.1
  have hown := hC.2.2.2.2.2.1
  have hts := hC.2.2.2.2.2.2.1
  have hl : lv_has ls 3 [(0, .ref (E.2.2.2.1 1)), (1, .ref (E.2.2.2.1 2))] := hl
  unfold fX2_copy_0_1 at hE
  refine lv_iconst (v := 0) hx hb dX2_copy_0 (by decide) ?_
  refine lv_istore_n (lv' := [(2, .int (0 : Int32)), (0, .ref (E.2.2.2.1 1)), (1, .ref (E.2.2.2.1 2))]) hx hb dX2_copy_1 rfl hl (Nat.le_of_ble_eq_true rfl) rfl (fun ls hl => ?_)
  obtain ⟨x_4, h_4, hE⟩ := ob hE
  refine lpo_walk (fun p_4 : Int32 × MS => mW p l e rmX2_copy s m args below meth c E 3 (mQ E below args s none y) 2 [(0, .ref (E.2.2.2.1 1)), (1, .ref (E.2.2.2.1 2)), (2, .int p_4.1)] [] p_4.2) (fun q_4 : MS => mW p l e rmX2_copy s m args below meth c E 3 (mQ E below args s none y) 21 [] [] q_4) (fun a_4 y_4 hB_4 hc_4 hx_4 => wX2_copy_0_1_B2 k  hC a_4 y_4 hB_4 hc_4 hx_4) _ _ x_4 h_4 ?_ H locs ls hP hS (lv_sub hl [1, 2, 0] rfl)
  intro H locs ls hP hS hl
  obtain rfl := Option.some.inj hE
  exact m_vret hC hP hS dX2_copy_21
def fX2_copy_1_0_B2 (k : Nat)  (a : Int32 × MS) : Option ((Int32 × MS) ⊕ MS) := if (3205 : Int32) ≤ a.1 then (some (.inr a.2)) else (if ib a.1 3205 then none else (if ib a.1 3205 then none else (nm (mA a.2 0 (upd (a.2.2.2.1 0) a.1.toNatClampNeg (a.2.2.2.1 1 a.1.toNatClampNeg))) fun z_3 => some (.inl ((a.1 + (1 : Int32)), z_3)))))
set_option maxHeartbeats 1000000 in
theorem wX2_copy_1_0_B2 {p : Program} {l : Launch} {e : Env} {s : State} {m : MethodId} {args : Array Value} {below : List Frame} {meth : Method} {c : Code} {E : ME} {Q : State → Prop} (k : Nat)  (hC : mC E cX2_copy 3 none p s m args meth c) (a : Int32 × MS) (y : (Int32 × MS) ⊕ MS) (hE : fX2_copy_1_0_B2 k  a = some y) (hc : ∀ a : Int32 × MS, y = .inl a → mW p l e rmX2_copy s m args below meth c E 3 Q 2 [(0, .ref (E.2.2.2.1 2)), (1, .ref (E.2.2.2.1 1)), (2, .int a.1)] [] a.2) (hx1 : ∀ b : MS, y = .inr b → mW p l e rmX2_copy s m args below meth c E 3 Q 21 [] [] b) : mW p l e rmX2_copy s m args below meth c E 3 Q 2 [(0, .ref (E.2.2.2.1 2)), (1, .ref (E.2.2.2.1 1)), (2, .int a.1)] [] a.2 := by
  intro H locs ls hP hS hl
  have hx := hC.1
  have hb := hC.2.1
  have hown := hC.2.2.2.2.2.1
  have hts := hC.2.2.2.2.2.2.1
  unfold fX2_copy_1_0_B2 at hE
  refine lv_iload_n hx hb dX2_copy_2 rfl (lv_at hl 2 rfl) ?_
  refine lv_sipush (v := 3205) hx hb dX2_copy_3 (by decide) ?_
  refine lv_icmp_ge (tgt := 21) hx hb dX2_copy_6 (by decide) (fun c_1 => ?_) (fun c_1 => ?_)
  · have hE := ip c_1 hE
    exact hx1 _ (Option.some.inj hE).symm H locs ls hP hS (lv_sub hl [] rfl)
  · have hE := iq c_1 hE
    refine lv_aload_n hx hb dX2_copy_9 rfl (lv_at hl 1 rfl) ?_
    refine lv_iload_n hx hb dX2_copy_10 rfl (lv_at hl 2 rfl) ?_
    refine lv_aload_n hx hb dX2_copy_11 rfl (lv_at hl 0 rfl) ?_
    refine lv_iload_n hx hb dX2_copy_12 rfl (lv_at hl 2 rfl) ?_
    obtain ⟨c_2, hE⟩ := og hE
    refine aM_1 hC hP c_2 dX2_copy_13 ?_
    obtain ⟨c_3, hE⟩ := og hE
    obtain ⟨z_3, ez_3, hE⟩ := on hE
    refine tM_0 hC hP hS c_3 ez_3 dX2_copy_14 (fun H locs hP hS => ?_)
    refine lv_iinc (v := (a.1 + (1 : Int32))) (lv' := [(2, .int (a.1 + (1 : Int32))), (0, .ref (E.2.2.2.1 2)), (1, .ref (E.2.2.2.1 1))]) hx hb dX2_copy_15 hl (k := 2) rfl rfl (Nat.le_of_ble_eq_true rfl) rfl (fun ls hl => ?_)
    refine lv_goto (tgt := 2) hx hb dX2_copy_18 (by decide) ?_
    exact hc _ (Option.some.inj hE).symm H locs ls hP hS (lv_sub hl [1, 2, 0] rfl)
def fX2_copy_1_0 (k : Nat) (z : MS)  : Option MS := (lpo (fX2_copy_1_0_B2 k ) k ((0 : Int32), z)).bind fun x_4 => some x_4
set_option maxHeartbeats 1000000 in
theorem wX2_copy_1_0 {l : Launch} {E : ME} (k : Nat) (z : MS)  (y : MS) (hE : fX2_copy_1_0 k z  = some y) : nM l yX2_copy (ws_ yX2_copy cX2_copy 3 none) rmX2_copy E z [.ref (E.2.2.2.1 2), .ref (E.2.2.2.1 1)] none y := by
  refine n_met (by decide) rfl (Nat.le_of_ble_eq_true rfl) (fun p e s m args below meth c hC => ?_)
  intro H locs ls hP hS hl
  have hx := hC.1
  have hb := hC.2.1
  have hown := hC.2.2.2.2.2.1
  have hts := hC.2.2.2.2.2.2.1
  have hl : lv_has ls 3 [(0, .ref (E.2.2.2.1 2)), (1, .ref (E.2.2.2.1 1))] := hl
  unfold fX2_copy_1_0 at hE
  refine lv_iconst (v := 0) hx hb dX2_copy_0 (by decide) ?_
  refine lv_istore_n (lv' := [(2, .int (0 : Int32)), (0, .ref (E.2.2.2.1 2)), (1, .ref (E.2.2.2.1 1))]) hx hb dX2_copy_1 rfl hl (Nat.le_of_ble_eq_true rfl) rfl (fun ls hl => ?_)
  obtain ⟨x_4, h_4, hE⟩ := ob hE
  refine lpo_walk (fun p_4 : Int32 × MS => mW p l e rmX2_copy s m args below meth c E 3 (mQ E below args s none y) 2 [(0, .ref (E.2.2.2.1 2)), (1, .ref (E.2.2.2.1 1)), (2, .int p_4.1)] [] p_4.2) (fun q_4 : MS => mW p l e rmX2_copy s m args below meth c E 3 (mQ E below args s none y) 21 [] [] q_4) (fun a_4 y_4 hB_4 hc_4 hx_4 => wX2_copy_1_0_B2 k  hC a_4 y_4 hB_4 hc_4 hx_4) _ _ x_4 h_4 ?_ H locs ls hP hS (lv_sub hl [1, 2, 0] rfl)
  intro H locs ls hP hS hl
  obtain rfl := Option.some.inj hE
  exact m_vret hC hP hS dX2_copy_21
def fX2_isIn (x0 : Int32) (x1 : Int32) (x2 : Int32) : Option Int32 := if x0 < x1 then (some (0 : Int32)) else (if x2 < x0 then (some (0 : Int32)) else (some (1 : Int32)))
set_option maxHeartbeats 1000000 in
theorem wX2_isIn {l : Launch} (x0 : Int32) (x1 : Int32) (x2 : Int32) (y : Int32) (hE : fX2_isIn x0 x1 x2 = some y) : sM l yX2_isIn (ws_ yX2_isIn cX2_isIn 3 (some .boolean)) rmX2_isIn [.int x0, .int x1, .int x2] (some (.int y)) := by
  refine s_met (own := RX2) (by decide) rfl (Nat.le_of_ble_eq_true rfl) (fun p e s m args below meth c hC => ?_)
  intro ls hl
  have hx := hC.1
  have hb := hC.2.1
  have hown := hC.2.2.2.2.2.1
  have hts := hC.2.2.2.2.2.2
  have hl : lv_has ls 3 [(0, .int x0), (1, .int x1), (2, .int x2)] := hl
  unfold fX2_isIn at hE
  refine lv_iload_n hx hb dX2_isIn_0 rfl (lv_at hl 0 rfl) ?_
  refine lv_iload_n hx hb dX2_isIn_1 rfl (lv_at hl 1 rfl) ?_
  refine lv_icmp_lt (tgt := 14) hx hb dX2_isIn_2 (by decide) (fun c_1 => ?_) (fun c_1 => ?_)
  · have hE := ip c_1 hE
    refine lv_iconst (v := 0) hx hb dX2_isIn_14 (by decide) ?_
    obtain rfl := Option.some.inj hE
    exact s_zret (v := (0 : Int32)) hC (by decide) dX2_isIn_15
  · have hE := iq c_1 hE
    refine lv_iload_n hx hb dX2_isIn_5 rfl (lv_at hl 0 rfl) ?_
    refine lv_iload_n hx hb dX2_isIn_6 rfl (lv_at hl 2 rfl) ?_
    refine lv_icmp_gt (tgt := 14) hx hb dX2_isIn_7 (by decide) (fun c_2 => ?_) (fun c_2 => ?_)
    · have hE := ip c_2 hE
      refine lv_iconst (v := 0) hx hb dX2_isIn_14 (by decide) ?_
      obtain rfl := Option.some.inj hE
      exact s_zret (v := (0 : Int32)) hC (by decide) dX2_isIn_15
    · have hE := iq c_2 hE
      refine lv_iconst (v := 1) hx hb dX2_isIn_10 (by decide) ?_
      refine lv_goto (tgt := 15) hx hb dX2_isIn_11 (by decide) ?_
      obtain rfl := Option.some.inj hE
      exact s_zret (v := (1 : Int32)) hC (by decide) dX2_isIn_15
def fX2_isPlace (x0 : Int32) : Option Int32 := (fX2_isIn x0 (0 : Int32) (29 : Int32)).bind fun r_1 => if ¬ r_1 &&& 1 = r_1 then none else some r_1
set_option maxHeartbeats 1000000 in
theorem wX2_isPlace {l : Launch} (x0 : Int32) (y : Int32) (hE : fX2_isPlace x0 = some y) : sM l yX2_isPlace (ws_ yX2_isPlace cX2_isPlace 1 (some .boolean)) rmX2_isPlace [.int x0] (some (.int y)) := by
  refine s_met (own := RX2) (by decide) rfl (Nat.le_of_ble_eq_true rfl) (fun p e s m args below meth c hC => ?_)
  intro ls hl
  have hx := hC.1
  have hb := hC.2.1
  have hown := hC.2.2.2.2.2.1
  have hts := hC.2.2.2.2.2.2
  have hl : lv_has ls 1 [(0, .int x0)] := hl
  unfold fX2_isPlace at hE
  refine lv_iload_n hx hb dX2_isPlace_0 rfl (lv_at hl 0 rfl) ?_
  refine lv_iconst (v := 0) hx hb dX2_isPlace_1 (by decide) ?_
  refine lv_bipush (v := 29) hx hb dX2_isPlace_2 (by decide) ?_
  obtain ⟨r_1, h_1, hE⟩ := ob hE
  refine s_calli [.int x0, .int (0 : Int32), .int (29 : Int32)] hC hl.1 (wX2_isIn x0 (0 : Int32) (29 : Int32) r_1 h_1) (va_cwS 3 hts lkX2_69 rfl rfl rfl cdX2_isIn ⟨Nat.le_of_ble_eq_true rfl, Nat.le_of_ble_eq_true rfl⟩) rfl rfl (lv_room (Nat.le_of_ble_eq_true rfl)) ⟨Nat.zero_le _, Nat.zero_le _⟩ dX2_isPlace_4 ?_
  obtain ⟨c_2, hE⟩ := og hE
  obtain rfl := Option.some.inj hE
  exact s_zret hC (Decidable.not_not.mp c_2) dX2_isPlace_7
def fX2_lay_B9 (k : Nat) (v1 : Int32) (v2 : Int32) (a : Int32 × MS) : Option ((Int32 × MS) ⊕ MS) := if (a.2.2.2.1 0 (3 : Int32).toNatClampNeg) ≤ a.1 then (some (.inr a.2)) else (if ib (((((145 : Int32) + ((101 : Int32) * a.1)) + (1 : Int32)) + v1) - (6 : Int32)) 3205 then none else (nm (mA a.2 0 (upd (a.2.2.2.1 0) (((((145 : Int32) + ((101 : Int32) * a.1)) + (1 : Int32)) + v1) - (6 : Int32)).toNatClampNeg v2)) fun z_4 => some (.inl ((a.1 + (1 : Int32)), z_4))))
set_option maxHeartbeats 1000000 in
theorem wX2_lay_B9 {p : Program} {l : Launch} {e : Env} {s : State} {m : MethodId} {args : Array Value} {below : List Frame} {meth : Method} {c : Code} {E : ME} {Q : State → Prop} (k : Nat) (v1 : Int32) (v2 : Int32) (hC : mC E cX2_lay 4 none p s m args meth c) (a : Int32 × MS) (y : (Int32 × MS) ⊕ MS) (hE : fX2_lay_B9 k v1 v2 a = some y) (hc : ∀ a : Int32 × MS, y = .inl a → mW p l e rmX2_lay s m args below meth c E 4 Q 9 [(0, .ref (E.2.2.2.1 0)), (1, .int v1), (2, .int v2), (3, .int a.1)] [] a.2) (hx1 : ∀ b : MS, y = .inr b → mW p l e rmX2_lay s m args below meth c E 4 Q 46 [] [] b) : mW p l e rmX2_lay s m args below meth c E 4 Q 9 [(0, .ref (E.2.2.2.1 0)), (1, .int v1), (2, .int v2), (3, .int a.1)] [] a.2 := by
  intro H locs ls hP hS hl
  have hx := hC.1
  have hb := hC.2.1
  have hown := hC.2.2.2.2.2.1
  have hts := hC.2.2.2.2.2.2.1
  unfold fX2_lay_B9 at hE
  refine lv_iload_n hx hb dX2_lay_9 rfl (lv_at hl 3 rfl) ?_
  refine lv_aload_n hx hb dX2_lay_10 rfl (lv_at hl 0 rfl) ?_
  refine gM_7 hC hP dX2_lay_11 ?_
  refine lv_iconst (v := 3) hx hb dX2_lay_14 (by decide) ?_
  refine aM_0 hC hP (i := (3 : Int32)) (by decide) dX2_lay_15 ?_
  refine lv_icmp_ge (tgt := 46) hx hb dX2_lay_16 (by decide) (fun c_3 => ?_) (fun c_3 => ?_)
  · have hE := ip c_3 hE
    exact hx1 _ (Option.some.inj hE).symm H locs ls hP hS (lv_sub hl [] rfl)
  · have hE := iq c_3 hE
    refine lv_aload_n hx hb dX2_lay_19 rfl (lv_at hl 0 rfl) ?_
    refine gM_7 hC hP dX2_lay_20 ?_
    refine lv_sipush (v := 145) hx hb dX2_lay_23 (by decide) ?_
    refine lv_bipush (v := 101) hx hb dX2_lay_26 (by decide) ?_
    refine lv_iload_n hx hb dX2_lay_28 rfl (lv_at hl 3 rfl) ?_
    refine lv_imul hx hb dX2_lay_29 ?_
    refine lv_iadd hx hb dX2_lay_30 ?_
    refine lv_iconst (v := 1) hx hb dX2_lay_31 (by decide) ?_
    refine lv_iadd hx hb dX2_lay_32 ?_
    refine lv_iload_n hx hb dX2_lay_33 rfl (lv_at hl 1 rfl) ?_
    refine lv_iadd hx hb dX2_lay_34 ?_
    refine lv_bipush (v := 6) hx hb dX2_lay_35 (by decide) ?_
    refine lv_isub hx hb dX2_lay_37 ?_
    refine lv_iload_n hx hb dX2_lay_38 rfl (lv_at hl 2 rfl) ?_
    obtain ⟨c_4, hE⟩ := og hE
    obtain ⟨z_4, ez_4, hE⟩ := on hE
    refine tM_0 hC hP hS c_4 ez_4 dX2_lay_39 (fun H locs hP hS => ?_)
    refine lv_iinc (v := (a.1 + (1 : Int32))) (lv' := [(3, .int (a.1 + (1 : Int32))), (0, .ref (E.2.2.2.1 0)), (1, .int v1), (2, .int v2)]) hx hb dX2_lay_40 hl (k := 3) rfl rfl (Nat.le_of_ble_eq_true rfl) rfl (fun ls hl => ?_)
    refine lv_goto (tgt := 9) hx hb dX2_lay_43 (by decide) ?_
    exact hc _ (Option.some.inj hE).symm H locs ls hP hS (lv_sub hl [1, 2, 3, 0] rfl)
def fX2_lay (k : Nat) (z : MS) (x1 : Int32) (x2 : Int32) : Option MS := if ib x1 3205 then none else (nm (mA z 0 (upd (z.2.2.1 0) x1.toNatClampNeg x2)) fun z_1 => (lpo (fX2_lay_B9 k x1 x2) k ((0 : Int32), z_1)).bind fun x_5 => some x_5)
set_option maxHeartbeats 1000000 in
theorem wX2_lay {l : Launch} {E : ME} (k : Nat) (z : MS) (x1 : Int32) (x2 : Int32) (y : MS) (hE : fX2_lay k z x1 x2 = some y) : mM l yX2_lay (ws_ yX2_lay cX2_lay 4 none) rmX2_lay E z [.int x1, .int x2] none y := by
  refine m_met (by decide) rfl (Nat.le_of_ble_eq_true rfl) (fun p e s m args below meth c hC => ?_)
  intro H locs ls hP hS hl
  have hx := hC.1
  have hb := hC.2.1
  have hown := hC.2.2.2.2.2.1
  have hts := hC.2.2.2.2.2.2.1
  have hl : lv_has ls 4 [(0, .ref (E.2.2.2.1 0)), (1, .int x1), (2, .int x2)] := hl
  unfold fX2_lay at hE
  refine lv_aload_n hx hb dX2_lay_0 rfl (lv_at hl 0 rfl) ?_
  refine gM_7 hC hP dX2_lay_1 ?_
  refine lv_iload_n hx hb dX2_lay_4 rfl (lv_at hl 1 rfl) ?_
  refine lv_iload_n hx hb dX2_lay_5 rfl (lv_at hl 2 rfl) ?_
  obtain ⟨c_1, hE⟩ := og hE
  obtain ⟨z_1, ez_1, hE⟩ := on hE
  refine tM_0 hC hP hS c_1 ez_1 dX2_lay_6 (fun H locs hP hS => ?_)
  refine lv_iconst (v := 0) hx hb dX2_lay_7 (by decide) ?_
  refine lv_istore_n (lv' := [(3, .int (0 : Int32)), (0, .ref (E.2.2.2.1 0)), (1, .int x1), (2, .int x2)]) hx hb dX2_lay_8 rfl hl (Nat.le_of_ble_eq_true rfl) rfl (fun ls hl => ?_)
  obtain ⟨x_5, h_5, hE⟩ := ob hE
  refine lpo_walk (fun p_5 : Int32 × MS => mW p l e rmX2_lay s m args below meth c E 4 (mQ E below args s none y) 9 [(0, .ref (E.2.2.2.1 0)), (1, .int x1), (2, .int x2), (3, .int p_5.1)] [] p_5.2) (fun q_5 : MS => mW p l e rmX2_lay s m args below meth c E 4 (mQ E below args s none y) 46 [] [] q_5) (fun a_5 y_5 hB_5 hc_5 hx_5 => wX2_lay_B9 k x1 x2 hC a_5 y_5 hB_5 hc_5 hx_5) _ _ x_5 h_5 ?_ H locs ls hP hS (lv_sub hl [1, 2, 3, 0] rfl)
  intro H locs ls hP hS hl
  obtain rfl := Option.some.inj hE
  exact m_vret hC hP hS dX2_lay_46
def fX2_bar (k : Nat) (z : MS) (x1 : Int32) (x2 : Int32) : Option (Int32 × MS) := (fX2_isPlace x1).bind fun r_1 => if r_1 = 0 then (some ((0 : Int32), z)) else ((fX2_isIn x2 (0 : Int32) (3 : Int32)).bind fun r_3 => if r_3 = 0 then (some ((0 : Int32), z)) else ((fX2_lay k z ((9 : Int32) + x1) x2).bind fun r_5 => some ((1 : Int32), r_5)))
set_option maxHeartbeats 1000000 in
theorem wX2_bar {l : Launch} {E : ME} (k : Nat) (z : MS) (x1 : Int32) (x2 : Int32) (y : Int32 × MS) (hE : fX2_bar k z x1 x2 = some y) : mM l yX2_bar (ws_ yX2_bar cX2_bar 3 (some .boolean)) rmX2_bar E z [.int x1, .int x2] (some (.int y.1)) y.2 := by
  refine m_met (by decide) rfl (Nat.le_of_ble_eq_true rfl) (fun p e s m args below meth c hC => ?_)
  intro H locs ls hP hS hl
  have hx := hC.1
  have hb := hC.2.1
  have hown := hC.2.2.2.2.2.1
  have hts := hC.2.2.2.2.2.2.1
  have hl : lv_has ls 3 [(0, .ref (E.2.2.2.1 0)), (1, .int x1), (2, .int x2)] := hl
  unfold fX2_bar at hE
  refine lv_iload_n hx hb dX2_bar_0 rfl (lv_at hl 1 rfl) ?_
  obtain ⟨r_1, h_1, hE⟩ := ob hE
  refine s_calli [.int x1] hC.sC hl.1 (wX2_isPlace x1 r_1 h_1) (va_cwS 1 hts lkX2_73 rfl rfl rfl cdX2_isPlace ⟨Nat.le_of_ble_eq_true rfl, Nat.le_of_ble_eq_true rfl⟩) rfl rfl (lv_room (Nat.le_of_ble_eq_true rfl)) ⟨Nat.zero_le _, Nat.zero_le _⟩ dX2_bar_1 ?_
  refine lv_if_eq (tgt := 16) hx hb dX2_bar_4 (by decide) (fun c_2 => ?_) (fun c_2 => ?_)
  · have hE := ip c_2 hE
    refine lv_iconst (v := 0) hx hb dX2_bar_16 (by decide) ?_
    obtain rfl := Option.some.inj hE
    exact m_zret (v := (0 : Int32)) hC hP hS (by decide) dX2_bar_17
  · have hE := iq c_2 hE
    refine lv_iload_n hx hb dX2_bar_7 rfl (lv_at hl 2 rfl) ?_
    refine lv_iconst (v := 0) hx hb dX2_bar_8 (by decide) ?_
    refine lv_iconst (v := 3) hx hb dX2_bar_9 (by decide) ?_
    obtain ⟨r_3, h_3, hE⟩ := ob hE
    refine s_calli [.int x2, .int (0 : Int32), .int (3 : Int32)] hC.sC hl.1 (wX2_isIn x2 (0 : Int32) (3 : Int32) r_3 h_3) (va_cwS 3 hts lkX2_69 rfl rfl rfl cdX2_isIn ⟨Nat.le_of_ble_eq_true rfl, Nat.le_of_ble_eq_true rfl⟩) rfl rfl (lv_room (Nat.le_of_ble_eq_true rfl)) ⟨Nat.zero_le _, Nat.zero_le _⟩ dX2_bar_10 ?_
    refine lv_if_ne (tgt := 18) hx hb dX2_bar_13 (by decide) (fun c_4 => ?_) (fun c_4 => ?_)
    · have hE := iq c_4 hE
      refine lv_aload_n hx hb dX2_bar_18 rfl (lv_at hl 0 rfl) ?_
      refine lv_bipush (v := 9) hx hb dX2_bar_19 (by decide) ?_
      refine lv_iload_n hx hb dX2_bar_21 rfl (lv_at hl 1 rfl) ?_
      refine lv_iadd hx hb dX2_bar_22 ?_
      refine lv_iload_n hx hb dX2_bar_23 rfl (lv_at hl 2 rfl) ?_
      obtain ⟨r_5, h_5, hE⟩ := ob hE
      refine m_callv [.int ((9 : Int32) + x1), .int x2] hC hP hS hl.1 (wX2_lay k z ((9 : Int32) + x1) x2 r_5 h_5) (cwV 2 hts lkX2_77 rfl rfl rfl cdX2_lay ⟨Nat.le_of_ble_eq_true rfl, Nat.le_of_ble_eq_true rfl⟩) rfl rfl (lv_room (Nat.le_of_ble_eq_true rfl)) dX2_bar_24 (fun H locs hP hS => ?_)
      refine lv_iconst (v := 1) hx hb dX2_bar_27 (by decide) ?_
      obtain rfl := Option.some.inj hE
      exact m_zret (v := (1 : Int32)) hC hP hS (by decide) dX2_bar_28
    · have hE := ip c_4 hE
      refine lv_iconst (v := 0) hx hb dX2_bar_16 (by decide) ?_
      obtain rfl := Option.some.inj hE
      exact m_zret (v := (0 : Int32)) hC hP hS (by decide) dX2_bar_17
def fX2_paint (k : Nat) (z : MS) (x1 : Int32) (x2 : Int32) : Option (Int32 × MS) := (fX2_isPlace x1).bind fun r_1 => if r_1 = 0 then (some ((0 : Int32), z)) else ((fX2_isIn x2 (0 : Int32) (9 : Int32)).bind fun r_3 => if r_3 = 0 then (some ((0 : Int32), z)) else ((fX2_lay k z ((39 : Int32) + x1) x2).bind fun r_5 => some ((1 : Int32), r_5)))
set_option maxHeartbeats 1000000 in
theorem wX2_paint {l : Launch} {E : ME} (k : Nat) (z : MS) (x1 : Int32) (x2 : Int32) (y : Int32 × MS) (hE : fX2_paint k z x1 x2 = some y) : mM l yX2_paint (ws_ yX2_paint cX2_paint 3 (some .boolean)) rmX2_paint E z [.int x1, .int x2] (some (.int y.1)) y.2 := by
  refine m_met (by decide) rfl (Nat.le_of_ble_eq_true rfl) (fun p e s m args below meth c hC => ?_)
  intro H locs ls hP hS hl
  have hx := hC.1
  have hb := hC.2.1
  have hown := hC.2.2.2.2.2.1
  have hts := hC.2.2.2.2.2.2.1
  have hl : lv_has ls 3 [(0, .ref (E.2.2.2.1 0)), (1, .int x1), (2, .int x2)] := hl
  unfold fX2_paint at hE
  refine lv_iload_n hx hb dX2_paint_0 rfl (lv_at hl 1 rfl) ?_
  obtain ⟨r_1, h_1, hE⟩ := ob hE
  refine s_calli [.int x1] hC.sC hl.1 (wX2_isPlace x1 r_1 h_1) (va_cwS 1 hts lkX2_73 rfl rfl rfl cdX2_isPlace ⟨Nat.le_of_ble_eq_true rfl, Nat.le_of_ble_eq_true rfl⟩) rfl rfl (lv_room (Nat.le_of_ble_eq_true rfl)) ⟨Nat.zero_le _, Nat.zero_le _⟩ dX2_paint_1 ?_
  refine lv_if_eq (tgt := 17) hx hb dX2_paint_4 (by decide) (fun c_2 => ?_) (fun c_2 => ?_)
  · have hE := ip c_2 hE
    refine lv_iconst (v := 0) hx hb dX2_paint_17 (by decide) ?_
    obtain rfl := Option.some.inj hE
    exact m_zret (v := (0 : Int32)) hC hP hS (by decide) dX2_paint_18
  · have hE := iq c_2 hE
    refine lv_iload_n hx hb dX2_paint_7 rfl (lv_at hl 2 rfl) ?_
    refine lv_iconst (v := 0) hx hb dX2_paint_8 (by decide) ?_
    refine lv_bipush (v := 9) hx hb dX2_paint_9 (by decide) ?_
    obtain ⟨r_3, h_3, hE⟩ := ob hE
    refine s_calli [.int x2, .int (0 : Int32), .int (9 : Int32)] hC.sC hl.1 (wX2_isIn x2 (0 : Int32) (9 : Int32) r_3 h_3) (va_cwS 3 hts lkX2_69 rfl rfl rfl cdX2_isIn ⟨Nat.le_of_ble_eq_true rfl, Nat.le_of_ble_eq_true rfl⟩) rfl rfl (lv_room (Nat.le_of_ble_eq_true rfl)) ⟨Nat.zero_le _, Nat.zero_le _⟩ dX2_paint_11 ?_
    refine lv_if_ne (tgt := 19) hx hb dX2_paint_14 (by decide) (fun c_4 => ?_) (fun c_4 => ?_)
    · have hE := iq c_4 hE
      refine lv_aload_n hx hb dX2_paint_19 rfl (lv_at hl 0 rfl) ?_
      refine lv_bipush (v := 39) hx hb dX2_paint_20 (by decide) ?_
      refine lv_iload_n hx hb dX2_paint_22 rfl (lv_at hl 1 rfl) ?_
      refine lv_iadd hx hb dX2_paint_23 ?_
      refine lv_iload_n hx hb dX2_paint_24 rfl (lv_at hl 2 rfl) ?_
      obtain ⟨r_5, h_5, hE⟩ := ob hE
      refine m_callv [.int ((39 : Int32) + x1), .int x2] hC hP hS hl.1 (wX2_lay k z ((39 : Int32) + x1) x2 r_5 h_5) (cwV 2 hts lkX2_77 rfl rfl rfl cdX2_lay ⟨Nat.le_of_ble_eq_true rfl, Nat.le_of_ble_eq_true rfl⟩) rfl rfl (lv_room (Nat.le_of_ble_eq_true rfl)) dX2_paint_25 (fun H locs hP hS => ?_)
      refine lv_iconst (v := 1) hx hb dX2_paint_28 (by decide) ?_
      obtain rfl := Option.some.inj hE
      exact m_zret (v := (1 : Int32)) hC hP hS (by decide) dX2_paint_29
    · have hE := ip c_4 hE
      refine lv_iconst (v := 0) hx hb dX2_paint_17 (by decide) ?_
      obtain rfl := Option.some.inj hE
      exact m_zret (v := (0 : Int32)) hC hP hS (by decide) dX2_paint_18
def fX2_child (z : MS) (x1 : Int32) (x2 : Int32) : Option (Int32 × MS) := (fX2_isIn x1 (1 : Int32) (9 : Int32)).bind fun r_1 => if r_1 = 0 then (some ((-1 : Int32), z)) else ((fX2_isIn x2 (0 : Int32) (9 : Int32)).bind fun r_3 => if r_3 = 0 then (some ((-1 : Int32), z)) else (if (z.2.2.1 0 (0 : Int32).toNatClampNeg) = (7 : Int32) then (some ((-1 : Int32), z)) else (if ib ((76 : Int32) + (z.2.2.1 0 (0 : Int32).toNatClampNeg)) 3205 then none else (nm (mA z 0 (upd (z.2.2.1 0) ((76 : Int32) + (z.2.2.1 0 (0 : Int32).toNatClampNeg)).toNatClampNeg x1)) fun z_8 => if ib ((83 : Int32) + (z.2.2.1 0 (0 : Int32).toNatClampNeg)) 3205 then none else (nm (mA z_8 0 (upd (z_8.2.2.1 0) ((83 : Int32) + (z.2.2.1 0 (0 : Int32).toNatClampNeg)).toNatClampNeg x2)) fun z_9 => if ib ((69 : Int32) + (z.2.2.1 0 (0 : Int32).toNatClampNeg)) 3205 then none else (nm (mA z_9 0 (upd (z_9.2.2.1 0) ((69 : Int32) + (z.2.2.1 0 (0 : Int32).toNatClampNeg)).toNatClampNeg (-1 : Int32))) fun z_10 => nm (mA z_10 0 (upd (z_10.2.2.1 0) (0 : Int32).toNatClampNeg ((z_10.2.2.1 0 (0 : Int32).toNatClampNeg) + (1 : Int32)))) fun z_12 => some ((z.2.2.1 0 (0 : Int32).toNatClampNeg), z_12)))))))
set_option maxHeartbeats 1000000 in
theorem wX2_child {l : Launch} {E : ME} (z : MS) (x1 : Int32) (x2 : Int32) (y : Int32 × MS) (hE : fX2_child z x1 x2 = some y) : mM l yX2_child (ws_ yX2_child cX2_child 4 (some .int)) rmX2_child E z [.int x1, .int x2] (some (.int y.1)) y.2 := by
  refine m_met (by decide) rfl (Nat.le_of_ble_eq_true rfl) (fun p e s m args below meth c hC => ?_)
  intro H locs ls hP hS hl
  have hx := hC.1
  have hb := hC.2.1
  have hown := hC.2.2.2.2.2.1
  have hts := hC.2.2.2.2.2.2.1
  have hl : lv_has ls 4 [(0, .ref (E.2.2.2.1 0)), (1, .int x1), (2, .int x2)] := hl
  unfold fX2_child at hE
  refine lv_iload_n hx hb dX2_child_0 rfl (lv_at hl 1 rfl) ?_
  refine lv_iconst (v := 1) hx hb dX2_child_1 (by decide) ?_
  refine lv_bipush (v := 9) hx hb dX2_child_2 (by decide) ?_
  obtain ⟨r_1, h_1, hE⟩ := ob hE
  refine s_calli [.int x1, .int (1 : Int32), .int (9 : Int32)] hC.sC hl.1 (wX2_isIn x1 (1 : Int32) (9 : Int32) r_1 h_1) (va_cwS 3 hts lkX2_69 rfl rfl rfl cdX2_isIn ⟨Nat.le_of_ble_eq_true rfl, Nat.le_of_ble_eq_true rfl⟩) rfl rfl (lv_room (Nat.le_of_ble_eq_true rfl)) ⟨Nat.zero_le _, Nat.zero_le _⟩ dX2_child_4 ?_
  refine lv_if_eq (tgt := 31) hx hb dX2_child_7 (by decide) (fun c_2 => ?_) (fun c_2 => ?_)
  · have hE := ip c_2 hE
    refine lv_iconst (v := -1) hx hb dX2_child_31 (by decide) ?_
    obtain rfl := Option.some.inj hE
    exact m_iret hC hP hS dX2_child_32
  · have hE := iq c_2 hE
    refine lv_iload_n hx hb dX2_child_10 rfl (lv_at hl 2 rfl) ?_
    refine lv_iconst (v := 0) hx hb dX2_child_11 (by decide) ?_
    refine lv_bipush (v := 9) hx hb dX2_child_12 (by decide) ?_
    obtain ⟨r_3, h_3, hE⟩ := ob hE
    refine s_calli [.int x2, .int (0 : Int32), .int (9 : Int32)] hC.sC hl.1 (wX2_isIn x2 (0 : Int32) (9 : Int32) r_3 h_3) (va_cwS 3 hts lkX2_69 rfl rfl rfl cdX2_isIn ⟨Nat.le_of_ble_eq_true rfl, Nat.le_of_ble_eq_true rfl⟩) rfl rfl (lv_room (Nat.le_of_ble_eq_true rfl)) ⟨Nat.zero_le _, Nat.zero_le _⟩ dX2_child_14 ?_
    refine lv_if_eq (tgt := 31) hx hb dX2_child_17 (by decide) (fun c_4 => ?_) (fun c_4 => ?_)
    · have hE := ip c_4 hE
      refine lv_iconst (v := -1) hx hb dX2_child_31 (by decide) ?_
      obtain rfl := Option.some.inj hE
      exact m_iret hC hP hS dX2_child_32
    · have hE := iq c_4 hE
      refine lv_aload_n hx hb dX2_child_20 rfl (lv_at hl 0 rfl) ?_
      refine gM_7 hC hP dX2_child_21 ?_
      refine lv_iconst (v := 0) hx hb dX2_child_24 (by decide) ?_
      refine aM_0 hC hP (i := (0 : Int32)) (by decide) dX2_child_25 ?_
      refine lv_bipush (v := 7) hx hb dX2_child_26 (by decide) ?_
      refine lv_icmp_ne (tgt := 33) hx hb dX2_child_28 (by decide) (fun c_6 => ?_) (fun c_6 => ?_)
      · have hE := iq c_6 hE
        refine lv_aload_n hx hb dX2_child_33 rfl (lv_at hl 0 rfl) ?_
        refine gM_7 hC hP dX2_child_34 ?_
        refine lv_iconst (v := 0) hx hb dX2_child_37 (by decide) ?_
        refine aM_0 hC hP (i := (0 : Int32)) (by decide) dX2_child_38 ?_
        refine lv_istore_n (lv' := [(3, .int (z.2.2.1 0 (0 : Int32).toNatClampNeg)), (0, .ref (E.2.2.2.1 0)), (1, .int x1), (2, .int x2)]) hx hb dX2_child_39 rfl hl (Nat.le_of_ble_eq_true rfl) rfl (fun ls hl => ?_)
        refine lv_aload_n hx hb dX2_child_40 rfl (lv_at hl 1 rfl) ?_
        refine gM_7 hC hP dX2_child_41 ?_
        refine lv_bipush (v := 76) hx hb dX2_child_44 (by decide) ?_
        refine lv_iload_n hx hb dX2_child_46 rfl (lv_at hl 0 rfl) ?_
        refine lv_iadd hx hb dX2_child_47 ?_
        refine lv_iload_n hx hb dX2_child_48 rfl (lv_at hl 2 rfl) ?_
        obtain ⟨c_8, hE⟩ := og hE
        obtain ⟨z_8, ez_8, hE⟩ := on hE
        refine tM_0 hC hP hS c_8 ez_8 dX2_child_49 (fun H locs hP hS => ?_)
        refine lv_aload_n hx hb dX2_child_50 rfl (lv_at hl 1 rfl) ?_
        refine gM_7 hC hP dX2_child_51 ?_
        refine lv_bipush (v := 83) hx hb dX2_child_54 (by decide) ?_
        refine lv_iload_n hx hb dX2_child_56 rfl (lv_at hl 0 rfl) ?_
        refine lv_iadd hx hb dX2_child_57 ?_
        refine lv_iload_n hx hb dX2_child_58 rfl (lv_at hl 3 rfl) ?_
        obtain ⟨c_9, hE⟩ := og hE
        obtain ⟨z_9, ez_9, hE⟩ := on hE
        refine tM_0 hC hP hS c_9 ez_9 dX2_child_59 (fun H locs hP hS => ?_)
        refine lv_aload_n hx hb dX2_child_60 rfl (lv_at hl 1 rfl) ?_
        refine gM_7 hC hP dX2_child_61 ?_
        refine lv_bipush (v := 69) hx hb dX2_child_64 (by decide) ?_
        refine lv_iload_n hx hb dX2_child_66 rfl (lv_at hl 0 rfl) ?_
        refine lv_iadd hx hb dX2_child_67 ?_
        refine lv_iconst (v := -1) hx hb dX2_child_68 (by decide) ?_
        obtain ⟨c_10, hE⟩ := og hE
        obtain ⟨z_10, ez_10, hE⟩ := on hE
        refine tM_0 hC hP hS c_10 ez_10 dX2_child_69 (fun H locs hP hS => ?_)
        refine lv_aload_n hx hb dX2_child_70 rfl (lv_at hl 1 rfl) ?_
        refine gM_7 hC hP dX2_child_71 ?_
        refine lv_iconst (v := 0) hx hb dX2_child_74 (by decide) ?_
        refine lv_dup2_11 hx hb dX2_child_75 rfl rfl ?_
        refine aM_0 hC hP (i := (0 : Int32)) (by decide) dX2_child_76 ?_
        refine lv_iconst (v := 1) hx hb dX2_child_77 (by decide) ?_
        refine lv_iadd hx hb dX2_child_78 ?_
        obtain ⟨z_12, ez_12, hE⟩ := on hE
        refine tM_0 hC hP hS (i := (0 : Int32)) (by decide) ez_12 dX2_child_79 (fun H locs hP hS => ?_)
        refine lv_iload_n hx hb dX2_child_80 rfl (lv_at hl 0 rfl) ?_
        obtain rfl := Option.some.inj hE
        exact m_iret hC hP hS dX2_child_81
      · have hE := ip c_6 hE
        refine lv_iconst (v := -1) hx hb dX2_child_31 (by decide) ?_
        obtain rfl := Option.some.inj hE
        exact m_iret hC hP hS dX2_child_32
def fX2_four_B3 (k : Nat) (v1 : Int32) (a : Int32 × MS) : Option ((Int32 × MS) ⊕ MS) := if a.1 < 0 then (some (.inr a.2)) else (if ib (a.2.1 4) 300 then none else (nm (mA a.2 3 (upd (a.2.2.2.1 3) (a.2.1 4).toNatClampNeg ((v1 >>> (a.1 &&& 31)) &&& (255 : Int32)))) fun z_2 => nm (mI z_2 4 ((z_2.1 4) + (1 : Int32))) fun z_3 => some (.inl ((a.1 + (-8 : Int32)), z_3))))
set_option maxHeartbeats 1000000 in
theorem wX2_four_B3 {p : Program} {l : Launch} {e : Env} {s : State} {m : MethodId} {args : Array Value} {below : List Frame} {meth : Method} {c : Code} {E : ME} {Q : State → Prop} (k : Nat) (v1 : Int32) (hC : mC E cX2_four 3 none p s m args meth c) (a : Int32 × MS) (y : (Int32 × MS) ⊕ MS) (hE : fX2_four_B3 k v1 a = some y) (hc : ∀ a : Int32 × MS, y = .inl a → mW p l e rmX2_four s m args below meth c E 3 Q 3 [(0, .ref (E.2.2.2.1 0)), (1, .int v1), (2, .int a.1)] [] a.2) (hx1 : ∀ b : MS, y = .inr b → mW p l e rmX2_four s m args below meth c E 3 Q 39 [] [] b) : mW p l e rmX2_four s m args below meth c E 3 Q 3 [(0, .ref (E.2.2.2.1 0)), (1, .int v1), (2, .int a.1)] [] a.2 := by
  intro H locs ls hP hS hl
  have hx := hC.1
  have hb := hC.2.1
  have hown := hC.2.2.2.2.2.1
  have hts := hC.2.2.2.2.2.2.1
  unfold fX2_four_B3 at hE
  refine lv_iload_n hx hb dX2_four_3 rfl (lv_at hl 2 rfl) ?_
  refine lv_if_lt (tgt := 39) hx hb dX2_four_4 (by decide) (fun c_1 => ?_) (fun c_1 => ?_)
  · have hE := ip c_1 hE
    exact hx1 _ (Option.some.inj hE).symm H locs ls hP hS (lv_sub hl [] rfl)
  · have hE := iq c_1 hE
    refine lv_aload_n hx hb dX2_four_7 rfl (lv_at hl 0 rfl) ?_
    refine gM_19 hC hP dX2_four_8 ?_
    refine lv_aload_n hx hb dX2_four_11 rfl (lv_at hl 0 rfl) ?_
    refine gM_81 hC hP dX2_four_12 ?_
    refine lv_iload_n hx hb dX2_four_15 rfl (lv_at hl 1 rfl) ?_
    refine lv_iload_n hx hb dX2_four_16 rfl (lv_at hl 2 rfl) ?_
    refine lv_ishr hx hb dX2_four_17 ?_
    refine lv_sipush (v := 255) hx hb dX2_four_18 (by decide) ?_
    refine lv_iand hx hb dX2_four_21 ?_
    obtain ⟨c_2, hE⟩ := og hE
    obtain ⟨z_2, ez_2, hE⟩ := on hE
    refine tM_3 hC hP hS c_2 ez_2 dX2_four_22 (fun H locs hP hS => ?_)
    refine lv_aload_n hx hb dX2_four_23 rfl (lv_at hl 0 rfl) ?_
    refine lv_dup hx hb dX2_four_24 rfl ?_
    refine gM_81 hC hP dX2_four_25 ?_
    refine lv_iconst (v := 1) hx hb dX2_four_28 (by decide) ?_
    refine lv_iadd hx hb dX2_four_29 ?_
    obtain ⟨z_3, ez_3, hE⟩ := on hE
    refine pM_81 hC hP hS ez_3 dX2_four_30 (fun H locs hP hS => ?_)
    refine lv_iinc (v := (a.1 + (-8 : Int32))) (lv' := [(2, .int (a.1 + (-8 : Int32))), (0, .ref (E.2.2.2.1 0)), (1, .int v1)]) hx hb dX2_four_33 hl (k := 2) rfl rfl (Nat.le_of_ble_eq_true rfl) rfl (fun ls hl => ?_)
    refine lv_goto (tgt := 3) hx hb dX2_four_36 (by decide) ?_
    exact hc _ (Option.some.inj hE).symm H locs ls hP hS (lv_sub hl [1, 2, 0] rfl)
def fX2_four (k : Nat) (z : MS) (x1 : Int32) : Option MS := (lpo (fX2_four_B3 k x1) k ((24 : Int32), z)).bind fun x_4 => some x_4
set_option maxHeartbeats 1000000 in
theorem wX2_four {l : Launch} {E : ME} (k : Nat) (z : MS) (x1 : Int32) (y : MS) (hE : fX2_four k z x1 = some y) : mM l yX2_four (ws_ yX2_four cX2_four 3 none) rmX2_four E z [.int x1] none y := by
  refine m_met (by decide) rfl (Nat.le_of_ble_eq_true rfl) (fun p e s m args below meth c hC => ?_)
  intro H locs ls hP hS hl
  have hx := hC.1
  have hb := hC.2.1
  have hown := hC.2.2.2.2.2.1
  have hts := hC.2.2.2.2.2.2.1
  have hl : lv_has ls 3 [(0, .ref (E.2.2.2.1 0)), (1, .int x1)] := hl
  unfold fX2_four at hE
  refine lv_bipush (v := 24) hx hb dX2_four_0 (by decide) ?_
  refine lv_istore_n (lv' := [(2, .int (24 : Int32)), (0, .ref (E.2.2.2.1 0)), (1, .int x1)]) hx hb dX2_four_2 rfl hl (Nat.le_of_ble_eq_true rfl) rfl (fun ls hl => ?_)
  obtain ⟨x_4, h_4, hE⟩ := ob hE
  refine lpo_walk (fun p_4 : Int32 × MS => mW p l e rmX2_four s m args below meth c E 3 (mQ E below args s none y) 3 [(0, .ref (E.2.2.2.1 0)), (1, .int x1), (2, .int p_4.1)] [] p_4.2) (fun q_4 : MS => mW p l e rmX2_four s m args below meth c E 3 (mQ E below args s none y) 39 [] [] q_4) (fun a_4 y_4 hB_4 hc_4 hx_4 => wX2_four_B3 k x1 hC a_4 y_4 hB_4 hc_4 hx_4) _ _ x_4 h_4 ?_ H locs ls hP hS (lv_sub hl [1, 2, 0] rfl)
  intro H locs ls hP hS hl
  obtain rfl := Option.some.inj hE
  exact m_vret hC hP hS dX2_four_39
def fX2_feed (k : Nat) (z : MS) (x1 : Int32) (x2 : Int32) (x3 : Int32) (x4 : Int32) (x5 : Int32) : Option (Int32 × MS) := if ((z.1 4) + (20 : Int32)) ≤ (300 : Int32) then ((fX2_four k z x1).bind fun r_2 => (fX2_four k r_2 x2).bind fun r_3 => (fX2_four k r_3 x3).bind fun r_4 => (fX2_four k r_4 x4).bind fun r_5 => (fX2_four k r_5 x5).bind fun r_6 => some ((r_6.1 4), r_6)) else (some ((-1 : Int32), z))
set_option maxHeartbeats 1000000 in
theorem wX2_feed {l : Launch} {E : ME} (k : Nat) (z : MS) (x1 : Int32) (x2 : Int32) (x3 : Int32) (x4 : Int32) (x5 : Int32) (y : Int32 × MS) (hE : fX2_feed k z x1 x2 x3 x4 x5 = some y) : mM l yX2_feed (ws_ yX2_feed cX2_feed 6 (some .int)) rmX2_feed E z [.int x1, .int x2, .int x3, .int x4, .int x5] (some (.int y.1)) y.2 := by
  refine m_met (by decide) rfl (Nat.le_of_ble_eq_true rfl) (fun p e s m args below meth c hC => ?_)
  intro H locs ls hP hS hl
  have hx := hC.1
  have hb := hC.2.1
  have hown := hC.2.2.2.2.2.1
  have hts := hC.2.2.2.2.2.2.1
  have hl : lv_has ls 6 [(0, .ref (E.2.2.2.1 0)), (1, .int x1), (2, .int x2), (3, .int x3), (4, .int x4), (5, .int x5)] := hl
  unfold fX2_feed at hE
  refine lv_aload_n hx hb dX2_feed_0 rfl (lv_at hl 0 rfl) ?_
  refine gM_81 hC hP dX2_feed_1 ?_
  refine lv_bipush (v := 20) hx hb dX2_feed_4 (by decide) ?_
  refine lv_iadd hx hb dX2_feed_6 ?_
  refine lv_sipush (v := 300) hx hb dX2_feed_7 (by decide) ?_
  refine lv_icmp_le (tgt := 15) hx hb dX2_feed_10 (by decide) (fun c_1 => ?_) (fun c_1 => ?_)
  · have hE := ip c_1 hE
    refine lv_aload_n hx hb dX2_feed_15 rfl (lv_at hl 0 rfl) ?_
    refine lv_iload_n hx hb dX2_feed_16 rfl (lv_at hl 1 rfl) ?_
    obtain ⟨r_2, h_2, hE⟩ := ob hE
    refine m_callv [.int x1] hC hP hS hl.1 (wX2_four k z x1 r_2 h_2) (cwV 1 hts lkX2_84 rfl rfl rfl cdX2_four ⟨Nat.le_of_ble_eq_true rfl, Nat.le_of_ble_eq_true rfl⟩) rfl rfl (lv_room (Nat.le_of_ble_eq_true rfl)) dX2_feed_17 (fun H locs hP hS => ?_)
    refine lv_aload_n hx hb dX2_feed_20 rfl (lv_at hl 0 rfl) ?_
    refine lv_iload_n hx hb dX2_feed_21 rfl (lv_at hl 2 rfl) ?_
    obtain ⟨r_3, h_3, hE⟩ := ob hE
    refine m_callv [.int x2] hC hP hS hl.1 (wX2_four k r_2 x2 r_3 h_3) (cwV 1 hts lkX2_84 rfl rfl rfl cdX2_four ⟨Nat.le_of_ble_eq_true rfl, Nat.le_of_ble_eq_true rfl⟩) rfl rfl (lv_room (Nat.le_of_ble_eq_true rfl)) dX2_feed_22 (fun H locs hP hS => ?_)
    refine lv_aload_n hx hb dX2_feed_25 rfl (lv_at hl 0 rfl) ?_
    refine lv_iload_n hx hb dX2_feed_26 rfl (lv_at hl 3 rfl) ?_
    obtain ⟨r_4, h_4, hE⟩ := ob hE
    refine m_callv [.int x3] hC hP hS hl.1 (wX2_four k r_3 x3 r_4 h_4) (cwV 1 hts lkX2_84 rfl rfl rfl cdX2_four ⟨Nat.le_of_ble_eq_true rfl, Nat.le_of_ble_eq_true rfl⟩) rfl rfl (lv_room (Nat.le_of_ble_eq_true rfl)) dX2_feed_27 (fun H locs hP hS => ?_)
    refine lv_aload_n hx hb dX2_feed_30 rfl (lv_at hl 0 rfl) ?_
    refine lv_iload hx hb dX2_feed_31 (lv_at hl 4 rfl) ?_
    obtain ⟨r_5, h_5, hE⟩ := ob hE
    refine m_callv [.int x4] hC hP hS hl.1 (wX2_four k r_4 x4 r_5 h_5) (cwV 1 hts lkX2_84 rfl rfl rfl cdX2_four ⟨Nat.le_of_ble_eq_true rfl, Nat.le_of_ble_eq_true rfl⟩) rfl rfl (lv_room (Nat.le_of_ble_eq_true rfl)) dX2_feed_33 (fun H locs hP hS => ?_)
    refine lv_aload_n hx hb dX2_feed_36 rfl (lv_at hl 0 rfl) ?_
    refine lv_iload hx hb dX2_feed_37 (lv_at hl 5 rfl) ?_
    obtain ⟨r_6, h_6, hE⟩ := ob hE
    refine m_callv [.int x5] hC hP hS hl.1 (wX2_four k r_5 x5 r_6 h_6) (cwV 1 hts lkX2_84 rfl rfl rfl cdX2_four ⟨Nat.le_of_ble_eq_true rfl, Nat.le_of_ble_eq_true rfl⟩) rfl rfl (lv_room (Nat.le_of_ble_eq_true rfl)) dX2_feed_39 (fun H locs hP hS => ?_)
    refine lv_aload_n hx hb dX2_feed_42 rfl (lv_at hl 0 rfl) ?_
    refine gM_81 hC hP dX2_feed_43 ?_
    obtain rfl := Option.some.inj hE
    exact m_iret hC hP hS dX2_feed_46
  · have hE := iq c_1 hE
    refine lv_iconst (v := -1) hx hb dX2_feed_13 (by decide) ?_
    obtain rfl := Option.some.inj hE
    exact m_iret hC hP hS dX2_feed_14
def fX2_end (z : MS) (x1 : Int32) : Option (Int32 × MS) := (fX2_isIn x1 (0 : Int32) (z.1 4)).bind fun r_1 => if r_1 = 0 then (some ((-1 : Int32), z)) else (nm (mI z 4 x1) fun z_3 => some (x1, z_3))
set_option maxHeartbeats 1000000 in
theorem wX2_end {l : Launch} {E : ME} (z : MS) (x1 : Int32) (y : Int32 × MS) (hE : fX2_end z x1 = some y) : mM l yX2_end (ws_ yX2_end cX2_end 2 (some .int)) rmX2_end E z [.int x1] (some (.int y.1)) y.2 := by
  refine m_met (by decide) rfl (Nat.le_of_ble_eq_true rfl) (fun p e s m args below meth c hC => ?_)
  intro H locs ls hP hS hl
  have hx := hC.1
  have hb := hC.2.1
  have hown := hC.2.2.2.2.2.1
  have hts := hC.2.2.2.2.2.2.1
  have hl : lv_has ls 2 [(0, .ref (E.2.2.2.1 0)), (1, .int x1)] := hl
  unfold fX2_end at hE
  refine lv_iload_n hx hb dX2_end_0 rfl (lv_at hl 1 rfl) ?_
  refine lv_iconst (v := 0) hx hb dX2_end_1 (by decide) ?_
  refine lv_aload_n hx hb dX2_end_2 rfl (lv_at hl 0 rfl) ?_
  refine gM_81 hC hP dX2_end_3 ?_
  obtain ⟨r_1, h_1, hE⟩ := ob hE
  refine s_calli [.int x1, .int (0 : Int32), .int (z.1 4)] hC.sC hl.1 (wX2_isIn x1 (0 : Int32) (z.1 4) r_1 h_1) (va_cwS 3 hts lkX2_69 rfl rfl rfl cdX2_isIn ⟨Nat.le_of_ble_eq_true rfl, Nat.le_of_ble_eq_true rfl⟩) rfl rfl (lv_room (Nat.le_of_ble_eq_true rfl)) ⟨Nat.zero_le _, Nat.zero_le _⟩ dX2_end_6 ?_
  refine lv_if_ne (tgt := 14) hx hb dX2_end_9 (by decide) (fun c_2 => ?_) (fun c_2 => ?_)
  · have hE := iq c_2 hE
    refine lv_aload_n hx hb dX2_end_14 rfl (lv_at hl 0 rfl) ?_
    refine lv_iload_n hx hb dX2_end_15 rfl (lv_at hl 1 rfl) ?_
    obtain ⟨z_3, ez_3, hE⟩ := on hE
    refine pM_81 hC hP hS ez_3 dX2_end_16 (fun H locs hP hS => ?_)
    refine lv_iload_n hx hb dX2_end_19 rfl (lv_at hl 1 rfl) ?_
    obtain rfl := Option.some.inj hE
    exact m_iret hC hP hS dX2_end_20
  · have hE := ip c_2 hE
    refine lv_iconst (v := -1) hx hb dX2_end_12 (by decide) ?_
    obtain rfl := Option.some.inj hE
    exact m_iret hC hP hS dX2_end_13
def fX2_byteAt (z : MS) (x1 : Int32) : Option Int32 := if (z.1 4) ≤ x1 then (some (-1 : Int32)) else (if ib x1 300 then none else (some (z.2.2.1 3 x1.toNatClampNeg)))
set_option maxHeartbeats 1000000 in
theorem wX2_byteAt {l : Launch} {E : ME} (z : MS) (x1 : Int32) (y : Int32) (hE : fX2_byteAt z x1 = some y) : mM l yX2_byteAt (ws_ yX2_byteAt cX2_byteAt 2 (some .int)) rmX2_byteAt E z [.int x1] (some (.int y)) z := by
  refine m_met (by decide) rfl (Nat.le_of_ble_eq_true rfl) (fun p e s m args below meth c hC => ?_)
  intro H locs ls hP hS hl
  have hx := hC.1
  have hb := hC.2.1
  have hown := hC.2.2.2.2.2.1
  have hts := hC.2.2.2.2.2.2.1
  have hl : lv_has ls 2 [(0, .ref (E.2.2.2.1 0)), (1, .int x1)] := hl
  unfold fX2_byteAt at hE
  refine lv_iload_n hx hb dX2_byteAt_0 rfl (lv_at hl 1 rfl) ?_
  refine lv_aload_n hx hb dX2_byteAt_1 rfl (lv_at hl 0 rfl) ?_
  refine gM_81 hC hP dX2_byteAt_2 ?_
  refine lv_icmp_ge (tgt := 17) hx hb dX2_byteAt_5 (by decide) (fun c_1 => ?_) (fun c_1 => ?_)
  · have hE := ip c_1 hE
    refine lv_iconst (v := -1) hx hb dX2_byteAt_17 (by decide) ?_
    obtain rfl := Option.some.inj hE
    exact m_iret hC hP hS dX2_byteAt_18
  · have hE := iq c_1 hE
    refine lv_aload_n hx hb dX2_byteAt_8 rfl (lv_at hl 0 rfl) ?_
    refine gM_19 hC hP dX2_byteAt_9 ?_
    refine lv_iload_n hx hb dX2_byteAt_12 rfl (lv_at hl 1 rfl) ?_
    obtain ⟨c_2, hE⟩ := og hE
    refine aM_3 hC hP c_2 dX2_byteAt_13 ?_
    refine lv_goto (tgt := 18) hx hb dX2_byteAt_14 (by decide) ?_
    obtain rfl := Option.some.inj hE
    exact m_iret hC hP hS dX2_byteAt_18
def fX2_isFigure (x0 : Int32) : Option Int32 := if x0 < (48 : Int32) then (some (0 : Int32)) else (if (57 : Int32) < x0 then (some (0 : Int32)) else (some (1 : Int32)))
set_option maxHeartbeats 1000000 in
theorem wX2_isFigure {l : Launch} (x0 : Int32) (y : Int32) (hE : fX2_isFigure x0 = some y) : sM l yX2_isFigure (ws_ yX2_isFigure cX2_isFigure 1 (some .boolean)) rmX2_isFigure [.int x0] (some (.int y)) := by
  refine s_met (own := RX2) (by decide) rfl (Nat.le_of_ble_eq_true rfl) (fun p e s m args below meth c hC => ?_)
  intro ls hl
  have hx := hC.1
  have hb := hC.2.1
  have hown := hC.2.2.2.2.2.1
  have hts := hC.2.2.2.2.2.2
  have hl : lv_has ls 1 [(0, .int x0)] := hl
  unfold fX2_isFigure at hE
  refine lv_iload_n hx hb dX2_isFigure_0 rfl (lv_at hl 0 rfl) ?_
  refine lv_bipush (v := 48) hx hb dX2_isFigure_1 (by decide) ?_
  refine lv_icmp_lt (tgt := 16) hx hb dX2_isFigure_3 (by decide) (fun c_1 => ?_) (fun c_1 => ?_)
  · have hE := ip c_1 hE
    refine lv_iconst (v := 0) hx hb dX2_isFigure_16 (by decide) ?_
    obtain rfl := Option.some.inj hE
    exact s_zret (v := (0 : Int32)) hC (by decide) dX2_isFigure_17
  · have hE := iq c_1 hE
    refine lv_iload_n hx hb dX2_isFigure_6 rfl (lv_at hl 0 rfl) ?_
    refine lv_bipush (v := 57) hx hb dX2_isFigure_7 (by decide) ?_
    refine lv_icmp_gt (tgt := 16) hx hb dX2_isFigure_9 (by decide) (fun c_2 => ?_) (fun c_2 => ?_)
    · have hE := ip c_2 hE
      refine lv_iconst (v := 0) hx hb dX2_isFigure_16 (by decide) ?_
      obtain rfl := Option.some.inj hE
      exact s_zret (v := (0 : Int32)) hC (by decide) dX2_isFigure_17
    · have hE := iq c_2 hE
      refine lv_iconst (v := 1) hx hb dX2_isFigure_12 (by decide) ?_
      refine lv_goto (tgt := 17) hx hb dX2_isFigure_13 (by decide) ?_
      obtain rfl := Option.some.inj hE
      exact s_zret (v := (1 : Int32)) hC (by decide) dX2_isFigure_17
def fX2_isLetterByte_J12 (x0 : Int32) : Option (Int32) := if x0 < (65 : Int32) then (some (0 : Int32)) else (if (90 : Int32) < x0 then (some (0 : Int32)) else (some (1 : Int32)))
set_option maxHeartbeats 1000000 in
theorem wX2_isLetterByte_J12 {p : Program} {l : Launch} {e : Env} {s : State} {m : MethodId} {args : Array Value} {below : List Frame} {meth : Method} {c : Code} (x0 : Int32) (hC : sC RX2 cX2_isLetterByte 1 (some .boolean) p s m args meth c) (y : Int32) (hE : fX2_isLetterByte_J12 x0 = some y) : sW p l e rmX2_isLetterByte s m args below meth c 1 (sQ below args s (some (.int y))) 12 [(0, .int x0)] [] := by
  intro ls hl
  have hx := hC.1
  have hb := hC.2.1
  have hown := hC.2.2.2.2.2.1
  have hts := hC.2.2.2.2.2.2
  unfold fX2_isLetterByte_J12 at hE
  refine lv_iload_n hx hb dX2_isLetterByte_12 rfl (lv_at hl 0 rfl) ?_
  refine lv_bipush (v := 65) hx hb dX2_isLetterByte_13 (by decide) ?_
  refine lv_icmp_lt (tgt := 28) hx hb dX2_isLetterByte_15 (by decide) (fun c_2 => ?_) (fun c_2 => ?_)
  · have hE := ip c_2 hE
    refine lv_iconst (v := 0) hx hb dX2_isLetterByte_28 (by decide) ?_
    obtain rfl := Option.some.inj hE
    exact s_zret (v := (0 : Int32)) hC (by decide) dX2_isLetterByte_29
  · have hE := iq c_2 hE
    refine lv_iload_n hx hb dX2_isLetterByte_18 rfl (lv_at hl 0 rfl) ?_
    refine lv_bipush (v := 90) hx hb dX2_isLetterByte_19 (by decide) ?_
    refine lv_icmp_gt (tgt := 28) hx hb dX2_isLetterByte_21 (by decide) (fun c_3 => ?_) (fun c_3 => ?_)
    · have hE := ip c_3 hE
      refine lv_iconst (v := 0) hx hb dX2_isLetterByte_28 (by decide) ?_
      obtain rfl := Option.some.inj hE
      exact s_zret (v := (0 : Int32)) hC (by decide) dX2_isLetterByte_29
    · have hE := iq c_3 hE
      refine lv_iconst (v := 1) hx hb dX2_isLetterByte_24 (by decide) ?_
      refine lv_goto (tgt := 29) hx hb dX2_isLetterByte_25 (by decide) ?_
      obtain rfl := Option.some.inj hE
      exact s_zret (v := (1 : Int32)) hC (by decide) dX2_isLetterByte_29
def fX2_isLetterByte (x0 : Int32) : Option Int32 := if x0 < (97 : Int32) then ((fX2_isLetterByte_J12 x0)) else (if x0 ≤ (122 : Int32) then (some (1 : Int32)) else ((fX2_isLetterByte_J12 x0)))
set_option maxHeartbeats 1000000 in
theorem wX2_isLetterByte {l : Launch} (x0 : Int32) (y : Int32) (hE : fX2_isLetterByte x0 = some y) : sM l yX2_isLetterByte (ws_ yX2_isLetterByte cX2_isLetterByte 1 (some .boolean)) rmX2_isLetterByte [.int x0] (some (.int y)) := by
  refine s_met (own := RX2) (by decide) rfl (Nat.le_of_ble_eq_true rfl) (fun p e s m args below meth c hC => ?_)
  intro ls hl
  have hx := hC.1
  have hb := hC.2.1
  have hown := hC.2.2.2.2.2.1
  have hts := hC.2.2.2.2.2.2
  have hl : lv_has ls 1 [(0, .int x0)] := hl
  unfold fX2_isLetterByte at hE
  refine lv_iload_n hx hb dX2_isLetterByte_0 rfl (lv_at hl 0 rfl) ?_
  refine lv_bipush (v := 97) hx hb dX2_isLetterByte_1 (by decide) ?_
  refine lv_icmp_lt (tgt := 12) hx hb dX2_isLetterByte_3 (by decide) (fun c_1 => ?_) (fun c_1 => ?_)
  · have hE := ip c_1 hE
    exact wX2_isLetterByte_J12 x0 hC y hE ls hl
  · have hE := iq c_1 hE
    refine lv_iload_n hx hb dX2_isLetterByte_6 rfl (lv_at hl 0 rfl) ?_
    refine lv_bipush (v := 122) hx hb dX2_isLetterByte_7 (by decide) ?_
    refine lv_icmp_le (tgt := 24) hx hb dX2_isLetterByte_9 (by decide) (fun c_4 => ?_) (fun c_4 => ?_)
    · have hE := ip c_4 hE
      refine lv_iconst (v := 1) hx hb dX2_isLetterByte_24 (by decide) ?_
      refine lv_goto (tgt := 29) hx hb dX2_isLetterByte_25 (by decide) ?_
      obtain rfl := Option.some.inj hE
      exact s_zret (v := (1 : Int32)) hC (by decide) dX2_isLetterByte_29
    · have hE := iq c_4 hE
      exact wX2_isLetterByte_J12 x0 hC y hE ls hl
def fX2_isSign (x0 : Int32) : Option Int32 := if x0 = (35 : Int32) then (some (1 : Int32)) else if x0 = (40 : Int32) then (some (1 : Int32)) else if x0 = (41 : Int32) then (some (1 : Int32)) else if x0 = (42 : Int32) then (some (1 : Int32)) else if x0 = (43 : Int32) then (some (1 : Int32)) else if x0 = (45 : Int32) then (some (1 : Int32)) else if x0 = (47 : Int32) then (some (1 : Int32)) else if x0 = (58 : Int32) then (some (1 : Int32)) else if x0 = (59 : Int32) then (some (1 : Int32)) else if x0 = (60 : Int32) then (some (1 : Int32)) else if x0 = (61 : Int32) then (some (1 : Int32)) else if x0 = (62 : Int32) then (some (1 : Int32)) else (some (0 : Int32))
set_option maxHeartbeats 1000000 in
theorem wX2_isSign {l : Launch} (x0 : Int32) (y : Int32) (hE : fX2_isSign x0 = some y) : sM l yX2_isSign (ws_ yX2_isSign cX2_isSign 1 (some .boolean)) rmX2_isSign [.int x0] (some (.int y)) := by
  refine s_met (own := RX2) (by decide) rfl (Nat.le_of_ble_eq_true rfl) (fun p e s m args below meth c hC => ?_)
  intro ls hl
  have hx := hC.1
  have hb := hC.2.1
  have hown := hC.2.2.2.2.2.1
  have hts := hC.2.2.2.2.2.2
  have hl : lv_has ls 1 [(0, .int x0)] := hl
  unfold fX2_isSign at hE
  refine lv_iload_n hx hb dX2_isSign_0 rfl (lv_at hl 0 rfl) ?_
  by_cases c_1_0 : x0 = (35 : Int32)
  · have hE := ip c_1_0 hE
    refine lv_tableIn (tgt := 128) (off := 127) hx hb dX2_isSign_1 (by rw [c_1_0]; decide) (by rw [c_1_0]; decide) (by rw [c_1_0]; rfl) (by decide) ?_
    refine lv_iconst (v := 1) hx hb dX2_isSign_128 (by decide) ?_
    obtain rfl := Option.some.inj hE
    exact s_zret (v := (1 : Int32)) hC (by decide) dX2_isSign_129
  have hE := iq c_1_0 hE
  by_cases c_1_5 : x0 = (40 : Int32)
  · have hE := ip c_1_5 hE
    refine lv_tableIn (tgt := 128) (off := 127) hx hb dX2_isSign_1 (by rw [c_1_5]; decide) (by rw [c_1_5]; decide) (by rw [c_1_5]; rfl) (by decide) ?_
    refine lv_iconst (v := 1) hx hb dX2_isSign_128 (by decide) ?_
    obtain rfl := Option.some.inj hE
    exact s_zret (v := (1 : Int32)) hC (by decide) dX2_isSign_129
  have hE := iq c_1_5 hE
  by_cases c_1_6 : x0 = (41 : Int32)
  · have hE := ip c_1_6 hE
    refine lv_tableIn (tgt := 128) (off := 127) hx hb dX2_isSign_1 (by rw [c_1_6]; decide) (by rw [c_1_6]; decide) (by rw [c_1_6]; rfl) (by decide) ?_
    refine lv_iconst (v := 1) hx hb dX2_isSign_128 (by decide) ?_
    obtain rfl := Option.some.inj hE
    exact s_zret (v := (1 : Int32)) hC (by decide) dX2_isSign_129
  have hE := iq c_1_6 hE
  by_cases c_1_7 : x0 = (42 : Int32)
  · have hE := ip c_1_7 hE
    refine lv_tableIn (tgt := 128) (off := 127) hx hb dX2_isSign_1 (by rw [c_1_7]; decide) (by rw [c_1_7]; decide) (by rw [c_1_7]; rfl) (by decide) ?_
    refine lv_iconst (v := 1) hx hb dX2_isSign_128 (by decide) ?_
    obtain rfl := Option.some.inj hE
    exact s_zret (v := (1 : Int32)) hC (by decide) dX2_isSign_129
  have hE := iq c_1_7 hE
  by_cases c_1_8 : x0 = (43 : Int32)
  · have hE := ip c_1_8 hE
    refine lv_tableIn (tgt := 128) (off := 127) hx hb dX2_isSign_1 (by rw [c_1_8]; decide) (by rw [c_1_8]; decide) (by rw [c_1_8]; rfl) (by decide) ?_
    refine lv_iconst (v := 1) hx hb dX2_isSign_128 (by decide) ?_
    obtain rfl := Option.some.inj hE
    exact s_zret (v := (1 : Int32)) hC (by decide) dX2_isSign_129
  have hE := iq c_1_8 hE
  by_cases c_1_10 : x0 = (45 : Int32)
  · have hE := ip c_1_10 hE
    refine lv_tableIn (tgt := 128) (off := 127) hx hb dX2_isSign_1 (by rw [c_1_10]; decide) (by rw [c_1_10]; decide) (by rw [c_1_10]; rfl) (by decide) ?_
    refine lv_iconst (v := 1) hx hb dX2_isSign_128 (by decide) ?_
    obtain rfl := Option.some.inj hE
    exact s_zret (v := (1 : Int32)) hC (by decide) dX2_isSign_129
  have hE := iq c_1_10 hE
  by_cases c_1_12 : x0 = (47 : Int32)
  · have hE := ip c_1_12 hE
    refine lv_tableIn (tgt := 128) (off := 127) hx hb dX2_isSign_1 (by rw [c_1_12]; decide) (by rw [c_1_12]; decide) (by rw [c_1_12]; rfl) (by decide) ?_
    refine lv_iconst (v := 1) hx hb dX2_isSign_128 (by decide) ?_
    obtain rfl := Option.some.inj hE
    exact s_zret (v := (1 : Int32)) hC (by decide) dX2_isSign_129
  have hE := iq c_1_12 hE
  by_cases c_1_23 : x0 = (58 : Int32)
  · have hE := ip c_1_23 hE
    refine lv_tableIn (tgt := 128) (off := 127) hx hb dX2_isSign_1 (by rw [c_1_23]; decide) (by rw [c_1_23]; decide) (by rw [c_1_23]; rfl) (by decide) ?_
    refine lv_iconst (v := 1) hx hb dX2_isSign_128 (by decide) ?_
    obtain rfl := Option.some.inj hE
    exact s_zret (v := (1 : Int32)) hC (by decide) dX2_isSign_129
  have hE := iq c_1_23 hE
  by_cases c_1_24 : x0 = (59 : Int32)
  · have hE := ip c_1_24 hE
    refine lv_tableIn (tgt := 128) (off := 127) hx hb dX2_isSign_1 (by rw [c_1_24]; decide) (by rw [c_1_24]; decide) (by rw [c_1_24]; rfl) (by decide) ?_
    refine lv_iconst (v := 1) hx hb dX2_isSign_128 (by decide) ?_
    obtain rfl := Option.some.inj hE
    exact s_zret (v := (1 : Int32)) hC (by decide) dX2_isSign_129
  have hE := iq c_1_24 hE
  by_cases c_1_25 : x0 = (60 : Int32)
  · have hE := ip c_1_25 hE
    refine lv_tableIn (tgt := 128) (off := 127) hx hb dX2_isSign_1 (by rw [c_1_25]; decide) (by rw [c_1_25]; decide) (by rw [c_1_25]; rfl) (by decide) ?_
    refine lv_iconst (v := 1) hx hb dX2_isSign_128 (by decide) ?_
    obtain rfl := Option.some.inj hE
    exact s_zret (v := (1 : Int32)) hC (by decide) dX2_isSign_129
  have hE := iq c_1_25 hE
  by_cases c_1_26 : x0 = (61 : Int32)
  · have hE := ip c_1_26 hE
    refine lv_tableIn (tgt := 128) (off := 127) hx hb dX2_isSign_1 (by rw [c_1_26]; decide) (by rw [c_1_26]; decide) (by rw [c_1_26]; rfl) (by decide) ?_
    refine lv_iconst (v := 1) hx hb dX2_isSign_128 (by decide) ?_
    obtain rfl := Option.some.inj hE
    exact s_zret (v := (1 : Int32)) hC (by decide) dX2_isSign_129
  have hE := iq c_1_26 hE
  by_cases c_1_27 : x0 = (62 : Int32)
  · have hE := ip c_1_27 hE
    refine lv_tableIn (tgt := 128) (off := 127) hx hb dX2_isSign_1 (by rw [c_1_27]; decide) (by rw [c_1_27]; decide) (by rw [c_1_27]; rfl) (by decide) ?_
    refine lv_iconst (v := 1) hx hb dX2_isSign_128 (by decide) ?_
    obtain rfl := Option.some.inj hE
    exact s_zret (v := (1 : Int32)) hC (by decide) dX2_isSign_129
  have hE := iq c_1_27 hE
  refine m_tdef (tgt := 130) hx hb dX2_isSign_1 (by decide) (fun h1 h2 => ?_) ?_
  · have h3 : x0.toInt = 35 ∨ x0.toInt = 36 ∨ x0.toInt = 37 ∨ x0.toInt = 38 ∨ x0.toInt = 39 ∨ x0.toInt = 40 ∨ x0.toInt = 41 ∨ x0.toInt = 42 ∨ x0.toInt = 43 ∨ x0.toInt = 44 ∨ x0.toInt = 45 ∨ x0.toInt = 46 ∨ x0.toInt = 47 ∨ x0.toInt = 48 ∨ x0.toInt = 49 ∨ x0.toInt = 50 ∨ x0.toInt = 51 ∨ x0.toInt = 52 ∨ x0.toInt = 53 ∨ x0.toInt = 54 ∨ x0.toInt = 55 ∨ x0.toInt = 56 ∨ x0.toInt = 57 ∨ x0.toInt = 58 ∨ x0.toInt = 59 ∨ x0.toInt = 60 ∨ x0.toInt = 61 ∨ x0.toInt = 62 := by omega
    rcases h3 with h3 | h3 | h3 | h3 | h3 | h3 | h3 | h3 | h3 | h3 | h3 | h3 | h3 | h3 | h3 | h3 | h3 | h3 | h3 | h3 | h3 | h3 | h3 | h3 | h3 | h3 | h3 | h3
    · exact absurd (Int32.toInt_inj.mp (by rw [h3]; decide)) c_1_0
    · rw [h3]; rfl
    · rw [h3]; rfl
    · rw [h3]; rfl
    · rw [h3]; rfl
    · exact absurd (Int32.toInt_inj.mp (by rw [h3]; decide)) c_1_5
    · exact absurd (Int32.toInt_inj.mp (by rw [h3]; decide)) c_1_6
    · exact absurd (Int32.toInt_inj.mp (by rw [h3]; decide)) c_1_7
    · exact absurd (Int32.toInt_inj.mp (by rw [h3]; decide)) c_1_8
    · rw [h3]; rfl
    · exact absurd (Int32.toInt_inj.mp (by rw [h3]; decide)) c_1_10
    · rw [h3]; rfl
    · exact absurd (Int32.toInt_inj.mp (by rw [h3]; decide)) c_1_12
    · rw [h3]; rfl
    · rw [h3]; rfl
    · rw [h3]; rfl
    · rw [h3]; rfl
    · rw [h3]; rfl
    · rw [h3]; rfl
    · rw [h3]; rfl
    · rw [h3]; rfl
    · rw [h3]; rfl
    · rw [h3]; rfl
    · exact absurd (Int32.toInt_inj.mp (by rw [h3]; decide)) c_1_23
    · exact absurd (Int32.toInt_inj.mp (by rw [h3]; decide)) c_1_24
    · exact absurd (Int32.toInt_inj.mp (by rw [h3]; decide)) c_1_25
    · exact absurd (Int32.toInt_inj.mp (by rw [h3]; decide)) c_1_26
    · exact absurd (Int32.toInt_inj.mp (by rw [h3]; decide)) c_1_27
  refine lv_iconst (v := 0) hx hb dX2_isSign_130 (by decide) ?_
  obtain rfl := Option.some.inj hE
  exact s_zret (v := (0 : Int32)) hC (by decide) dX2_isSign_131
def fX2_nextToken_J26 (k : Nat) (z : MS)  : Option (MS ⊕ MS) := nm (mI z 7 ((z.1 7) + (1 : Int32))) fun z_3 => some (.inl z_3)
set_option maxHeartbeats 1000000 in
theorem wX2_nextToken_J26 {p : Program} {l : Launch} {e : Env} {s : State} {m : MethodId} {args : Array Value} {below : List Frame} {meth : Method} {c : Code} {E : ME} {Q : State → Prop} (k : Nat) (z : MS)  (hC : mC E cX2_nextToken 2 none p s m args meth c) (y : MS ⊕ MS) (hE : fX2_nextToken_J26 k z  = some y) (hc : ∀ a : MS, y = .inl a → mW p l e rmX2_nextToken s m args below meth c E 2 Q 0 [(0, .ref (E.2.2.2.1 0))] [] a) (hx1 : ∀ b : MS, y = .inr b → mW p l e rmX2_nextToken s m args below meth c E 2 Q 39 [(0, .ref (E.2.2.2.1 0))] [] b) : mW p l e rmX2_nextToken s m args below meth c E 2 Q 26 [(0, .ref (E.2.2.2.1 0))] [] z := by
  intro H locs ls hP hS hl
  have hx := hC.1
  have hb := hC.2.1
  have hown := hC.2.2.2.2.2.1
  have hts := hC.2.2.2.2.2.2.1
  unfold fX2_nextToken_J26 at hE
  refine lv_aload_n hx hb dX2_nextToken_26 rfl (lv_at hl 0 rfl) ?_
  refine lv_dup hx hb dX2_nextToken_27 rfl ?_
  refine gM_88 hC hP dX2_nextToken_28 ?_
  refine lv_iconst (v := 1) hx hb dX2_nextToken_31 (by decide) ?_
  refine lv_iadd hx hb dX2_nextToken_32 ?_
  obtain ⟨z_3, ez_3, hE⟩ := on hE
  refine pM_88 hC hP hS ez_3 dX2_nextToken_33 (fun H locs hP hS => ?_)
  refine lv_goto (tgt := 0) hx hb dX2_nextToken_36 (by decide) ?_
  exact hc _ (Option.some.inj hE).symm H locs ls hP hS hl
def fX2_nextToken_B0 (k : Nat)  (a : MS) : Option (MS ⊕ MS) := (fX2_byteAt a (a.1 7)).bind fun r_1 => if r_1 = (32 : Int32) then ((fX2_nextToken_J26 k a )) else ((fX2_byteAt a (a.1 7)).bind fun r_4 => if r_4 = (10 : Int32) then ((fX2_nextToken_J26 k a )) else (some (.inr a)))
set_option maxHeartbeats 1000000 in
theorem wX2_nextToken_B0 {p : Program} {l : Launch} {e : Env} {s : State} {m : MethodId} {args : Array Value} {below : List Frame} {meth : Method} {c : Code} {E : ME} {Q : State → Prop} (k : Nat)  (hC : mC E cX2_nextToken 2 none p s m args meth c) (a : MS) (y : MS ⊕ MS) (hE : fX2_nextToken_B0 k  a = some y) (hc : ∀ a : MS, y = .inl a → mW p l e rmX2_nextToken s m args below meth c E 2 Q 0 [(0, .ref (E.2.2.2.1 0))] [] a) (hx1 : ∀ b : MS, y = .inr b → mW p l e rmX2_nextToken s m args below meth c E 2 Q 39 [(0, .ref (E.2.2.2.1 0))] [] b) : mW p l e rmX2_nextToken s m args below meth c E 2 Q 0 [(0, .ref (E.2.2.2.1 0))] [] a := by
  intro H locs ls hP hS hl
  have hx := hC.1
  have hb := hC.2.1
  have hown := hC.2.2.2.2.2.1
  have hts := hC.2.2.2.2.2.2.1
  unfold fX2_nextToken_B0 at hE
  refine lv_aload_n hx hb dX2_nextToken_0 rfl (lv_at hl 0 rfl) ?_
  refine lv_aload_n hx hb dX2_nextToken_1 rfl (lv_at hl 0 rfl) ?_
  refine gM_88 hC hP dX2_nextToken_2 ?_
  obtain ⟨r_1, h_1, hE⟩ := ob hE
  refine m_calli [.int (a.1 7)] hC hP hS hl.1 (wX2_byteAt a (a.1 7) r_1 h_1) (cwV 1 hts lkX2_91 rfl rfl rfl cdX2_byteAt ⟨Nat.le_of_ble_eq_true rfl, Nat.le_of_ble_eq_true rfl⟩) rfl rfl (lv_room (Nat.le_of_ble_eq_true rfl)) dX2_nextToken_5 (fun H locs hP hS => ?_)
  refine lv_bipush (v := 32) hx hb dX2_nextToken_8 (by decide) ?_
  refine lv_icmp_eq (tgt := 26) hx hb dX2_nextToken_10 (by decide) (fun c_2 => ?_) (fun c_2 => ?_)
  · have hE := ip c_2 hE
    exact wX2_nextToken_J26 k a  hC y hE hc hx1 H locs ls hP hS hl
  · have hE := iq c_2 hE
    refine lv_aload_n hx hb dX2_nextToken_13 rfl (lv_at hl 0 rfl) ?_
    refine lv_aload_n hx hb dX2_nextToken_14 rfl (lv_at hl 0 rfl) ?_
    refine gM_88 hC hP dX2_nextToken_15 ?_
    obtain ⟨r_4, h_4, hE⟩ := ob hE
    refine m_calli [.int (a.1 7)] hC hP hS hl.1 (wX2_byteAt a (a.1 7) r_4 h_4) (cwV 1 hts lkX2_91 rfl rfl rfl cdX2_byteAt ⟨Nat.le_of_ble_eq_true rfl, Nat.le_of_ble_eq_true rfl⟩) rfl rfl (lv_room (Nat.le_of_ble_eq_true rfl)) dX2_nextToken_18 (fun H locs hP hS => ?_)
    refine lv_bipush (v := 10) hx hb dX2_nextToken_21 (by decide) ?_
    refine lv_icmp_ne (tgt := 39) hx hb dX2_nextToken_23 (by decide) (fun c_5 => ?_) (fun c_5 => ?_)
    · have hE := iq c_5 hE
      exact hx1 _ (Option.some.inj hE).symm H locs ls hP hS hl
    · have hE := ip c_5 hE
      exact wX2_nextToken_J26 k a  hC y hE hc hx1 H locs ls hP hS hl
def fX2_nextToken_J297 (k : Nat) (z : MS) (t0 : Int32) : Option (MS) := nm (mI z 9 t0) fun z_22 => nm (mI z_22 7 ((z_22.1 7) + (1 : Int32))) fun z_23 => some z_23
set_option maxHeartbeats 1000000 in
theorem wX2_nextToken_J297 {p : Program} {l : Launch} {e : Env} {s : State} {m : MethodId} {args : Array Value} {below : List Frame} {meth : Method} {c : Code} {E : ME} (k : Nat) (z : MS) (t0 : Int32) (hC : mC E cX2_nextToken 2 none p s m args meth c) (y : MS) (hE : fX2_nextToken_J297 k z t0 = some y) : mW p l e rmX2_nextToken s m args below meth c E 2 (mQ E below args s none y) 297 [(0, .ref (E.2.2.2.1 0))] [.int t0, .ref (E.2.2.2.1 0)] z := by
  intro H locs ls hP hS hl
  have hx := hC.1
  have hb := hC.2.1
  have hown := hC.2.2.2.2.2.1
  have hts := hC.2.2.2.2.2.2.1
  unfold fX2_nextToken_J297 at hE
  obtain ⟨z_22, ez_22, hE⟩ := on hE
  refine pM_98 hC hP hS ez_22 dX2_nextToken_297 (fun H locs hP hS => ?_)
  refine lv_aload_n hx hb dX2_nextToken_300 rfl (lv_at hl 0 rfl) ?_
  refine lv_dup hx hb dX2_nextToken_301 rfl ?_
  refine gM_88 hC hP dX2_nextToken_302 ?_
  refine lv_iconst (v := 1) hx hb dX2_nextToken_305 (by decide) ?_
  refine lv_iadd hx hb dX2_nextToken_306 ?_
  obtain ⟨z_23, ez_23, hE⟩ := on hE
  refine pM_88 hC hP hS ez_23 dX2_nextToken_307 (fun H locs hP hS => ?_)
  obtain rfl := Option.some.inj hE
  exact m_vret hC hP hS dX2_nextToken_310
def fX2_nextToken_J272 (k : Nat) (z : MS) (x1 : Int32) : Option (MS) := (fX2_byteAt z (z.1 7)).bind fun r_19 => if r_19 = (61 : Int32) then (if x1 = (60 : Int32) then ((fX2_nextToken_J297 k z (4 : Int32))) else ((fX2_nextToken_J297 k z (5 : Int32)))) else (some z)
set_option maxHeartbeats 1000000 in
theorem wX2_nextToken_J272 {p : Program} {l : Launch} {e : Env} {s : State} {m : MethodId} {args : Array Value} {below : List Frame} {meth : Method} {c : Code} {E : ME} (k : Nat) (z : MS) (x1 : Int32) (hC : mC E cX2_nextToken 2 none p s m args meth c) (y : MS) (hE : fX2_nextToken_J272 k z x1 = some y) : mW p l e rmX2_nextToken s m args below meth c E 2 (mQ E below args s none y) 272 [(0, .ref (E.2.2.2.1 0)), (1, .int x1)] [] z := by
  intro H locs ls hP hS hl
  have hx := hC.1
  have hb := hC.2.1
  have hown := hC.2.2.2.2.2.1
  have hts := hC.2.2.2.2.2.2.1
  unfold fX2_nextToken_J272 at hE
  refine lv_aload_n hx hb dX2_nextToken_272 rfl (lv_at hl 0 rfl) ?_
  refine lv_aload_n hx hb dX2_nextToken_273 rfl (lv_at hl 0 rfl) ?_
  refine gM_88 hC hP dX2_nextToken_274 ?_
  obtain ⟨r_19, h_19, hE⟩ := ob hE
  refine m_calli [.int (z.1 7)] hC hP hS hl.1 (wX2_byteAt z (z.1 7) r_19 h_19) (cwV 1 hts lkX2_91 rfl rfl rfl cdX2_byteAt ⟨Nat.le_of_ble_eq_true rfl, Nat.le_of_ble_eq_true rfl⟩) rfl rfl (lv_room (Nat.le_of_ble_eq_true rfl)) dX2_nextToken_277 (fun H locs hP hS => ?_)
  refine lv_bipush (v := 61) hx hb dX2_nextToken_280 (by decide) ?_
  refine lv_icmp_ne (tgt := 310) hx hb dX2_nextToken_282 (by decide) (fun c_20 => ?_) (fun c_20 => ?_)
  · have hE := iq c_20 hE
    obtain rfl := Option.some.inj hE
    exact m_vret hC hP hS dX2_nextToken_310
  · have hE := ip c_20 hE
    refine lv_aload_n hx hb dX2_nextToken_285 rfl (lv_at hl 0 rfl) ?_
    refine lv_iload_n hx hb dX2_nextToken_286 rfl (lv_at hl 1 rfl) ?_
    refine lv_bipush (v := 60) hx hb dX2_nextToken_287 (by decide) ?_
    refine lv_icmp_ne (tgt := 296) hx hb dX2_nextToken_289 (by decide) (fun c_21 => ?_) (fun c_21 => ?_)
    · have hE := iq c_21 hE
      refine lv_iconst (v := 5) hx hb dX2_nextToken_296 (by decide) ?_
      exact wX2_nextToken_J297 k z (5 : Int32) hC y hE H locs ls hP hS (lv_sub hl [0] rfl)
    · have hE := ip c_21 hE
      refine lv_iconst (v := 4) hx hb dX2_nextToken_292 (by decide) ?_
      refine lv_goto (tgt := 297) hx hb dX2_nextToken_293 (by decide) ?_
      exact wX2_nextToken_J297 k z (4 : Int32) hC y hE H locs ls hP hS (lv_sub hl [0] rfl)
def fX2_nextToken_J247 (k : Nat) (z : MS) (x1 : Int32) (t0 : Int32) : Option (MS) := nm (mI z 9 t0) fun z_16 => nm (mI z_16 7 ((z_16.1 7) + (1 : Int32))) fun z_17 => if x1 = (60 : Int32) then ((fX2_nextToken_J272 k z_17 x1)) else (if x1 = (62 : Int32) then ((fX2_nextToken_J272 k z_17 x1)) else (some z_17))
set_option maxHeartbeats 1000000 in
theorem wX2_nextToken_J247 {p : Program} {l : Launch} {e : Env} {s : State} {m : MethodId} {args : Array Value} {below : List Frame} {meth : Method} {c : Code} {E : ME} (k : Nat) (z : MS) (x1 : Int32) (t0 : Int32) (hC : mC E cX2_nextToken 2 none p s m args meth c) (y : MS) (hE : fX2_nextToken_J247 k z x1 t0 = some y) : mW p l e rmX2_nextToken s m args below meth c E 2 (mQ E below args s none y) 247 [(0, .ref (E.2.2.2.1 0)), (1, .int x1)] [.int t0, .ref (E.2.2.2.1 0)] z := by
  intro H locs ls hP hS hl
  have hx := hC.1
  have hb := hC.2.1
  have hown := hC.2.2.2.2.2.1
  have hts := hC.2.2.2.2.2.2.1
  unfold fX2_nextToken_J247 at hE
  obtain ⟨z_16, ez_16, hE⟩ := on hE
  refine pM_98 hC hP hS ez_16 dX2_nextToken_247 (fun H locs hP hS => ?_)
  refine lv_aload_n hx hb dX2_nextToken_250 rfl (lv_at hl 0 rfl) ?_
  refine lv_dup hx hb dX2_nextToken_251 rfl ?_
  refine gM_88 hC hP dX2_nextToken_252 ?_
  refine lv_iconst (v := 1) hx hb dX2_nextToken_255 (by decide) ?_
  refine lv_iadd hx hb dX2_nextToken_256 ?_
  obtain ⟨z_17, ez_17, hE⟩ := on hE
  refine pM_88 hC hP hS ez_17 dX2_nextToken_257 (fun H locs hP hS => ?_)
  refine lv_iload_n hx hb dX2_nextToken_260 rfl (lv_at hl 1 rfl) ?_
  refine lv_bipush (v := 60) hx hb dX2_nextToken_261 (by decide) ?_
  refine lv_icmp_eq (tgt := 272) hx hb dX2_nextToken_263 (by decide) (fun c_18 => ?_) (fun c_18 => ?_)
  · have hE := ip c_18 hE
    exact wX2_nextToken_J272 k z_17 x1 hC y hE H locs ls hP hS hl
  · have hE := iq c_18 hE
    refine lv_iload_n hx hb dX2_nextToken_266 rfl (lv_at hl 1 rfl) ?_
    refine lv_bipush (v := 62) hx hb dX2_nextToken_267 (by decide) ?_
    refine lv_icmp_ne (tgt := 310) hx hb dX2_nextToken_269 (by decide) (fun c_24 => ?_) (fun c_24 => ?_)
    · have hE := iq c_24 hE
      obtain rfl := Option.some.inj hE
      exact m_vret hC hP hS dX2_nextToken_310
    · have hE := ip c_24 hE
      exact wX2_nextToken_J272 k z_17 x1 hC y hE H locs ls hP hS hl
def fX2_nextToken_J218 (k : Nat) (z : MS) (t0 : Int64) : Option (MS ⊕ MS) := nm (mJ z 11 t0) fun z_32 => nm (mI z_32 7 ((z_32.1 7) + (1 : Int32))) fun z_33 => some (.inl z_33)
set_option maxHeartbeats 1000000 in
theorem wX2_nextToken_J218 {p : Program} {l : Launch} {e : Env} {s : State} {m : MethodId} {args : Array Value} {below : List Frame} {meth : Method} {c : Code} {E : ME} {Q : State → Prop} (k : Nat) (z : MS) (t0 : Int64) (hC : mC E cX2_nextToken 2 none p s m args meth c) (y : MS ⊕ MS) (hE : fX2_nextToken_J218 k z t0 = some y) (hc : ∀ a : MS, y = .inl a → mW p l e rmX2_nextToken s m args below meth c E 2 Q 168 [(0, .ref (E.2.2.2.1 0))] [] a) (hx1 : ∀ b : MS, y = .inr b → mW p l e rmX2_nextToken s m args below meth c E 2 Q 310 [] [] b) : mW p l e rmX2_nextToken s m args below meth c E 2 Q 218 [(0, .ref (E.2.2.2.1 0))] [.long t0, .ref (E.2.2.2.1 0)] z := by
  intro H locs ls hP hS hl
  have hx := hC.1
  have hb := hC.2.1
  have hown := hC.2.2.2.2.2.1
  have hts := hC.2.2.2.2.2.2.1
  unfold fX2_nextToken_J218 at hE
  obtain ⟨z_32, ez_32, hE⟩ := on hE
  refine pM_111 hC hP hS ez_32 dX2_nextToken_218 (fun H locs hP hS => ?_)
  refine lv_aload_n hx hb dX2_nextToken_221 rfl (lv_at hl 0 rfl) ?_
  refine lv_dup hx hb dX2_nextToken_222 rfl ?_
  refine gM_88 hC hP dX2_nextToken_223 ?_
  refine lv_iconst (v := 1) hx hb dX2_nextToken_226 (by decide) ?_
  refine lv_iadd hx hb dX2_nextToken_227 ?_
  obtain ⟨z_33, ez_33, hE⟩ := on hE
  refine pM_88 hC hP hS ez_33 dX2_nextToken_228 (fun H locs hP hS => ?_)
  refine lv_goto (tgt := 168) hx hb dX2_nextToken_231 (by decide) ?_
  exact hc _ (Option.some.inj hE).symm H locs ls hP hS hl
def fX2_nextToken_B168 (k : Nat)  (a : MS) : Option (MS ⊕ MS) := (fX2_byteAt a (a.1 7)).bind fun r_27 => (fX2_isLetterByte r_27).bind fun r_28 => if r_28 = 0 then (some (.inr a)) else (if (lg_cmp ((a.2.1 11) >>> (((48 : Int32)).toInt64 &&& 63)) (0 : Int64)) = 0 then ((fX2_byteAt a (a.1 7)).bind fun r_31 => (fX2_nextToken_J218 k a (((a.2.1 11) <<< (((8 : Int32)).toInt64 &&& 63)) ||| r_31.toInt64))) else ((fX2_nextToken_J218 k a (1152921504606846976 : Int64))))
set_option maxHeartbeats 1000000 in
theorem wX2_nextToken_B168 {p : Program} {l : Launch} {e : Env} {s : State} {m : MethodId} {args : Array Value} {below : List Frame} {meth : Method} {c : Code} {E : ME} {Q : State → Prop} (k : Nat)  (hC : mC E cX2_nextToken 2 none p s m args meth c) (a : MS) (y : MS ⊕ MS) (hE : fX2_nextToken_B168 k  a = some y) (hc : ∀ a : MS, y = .inl a → mW p l e rmX2_nextToken s m args below meth c E 2 Q 168 [(0, .ref (E.2.2.2.1 0))] [] a) (hx1 : ∀ b : MS, y = .inr b → mW p l e rmX2_nextToken s m args below meth c E 2 Q 310 [] [] b) : mW p l e rmX2_nextToken s m args below meth c E 2 Q 168 [(0, .ref (E.2.2.2.1 0))] [] a := by
  intro H locs ls hP hS hl
  have hx := hC.1
  have hb := hC.2.1
  have hown := hC.2.2.2.2.2.1
  have hts := hC.2.2.2.2.2.2.1
  unfold fX2_nextToken_B168 at hE
  refine lv_aload_n hx hb dX2_nextToken_168 rfl (lv_at hl 0 rfl) ?_
  refine lv_aload_n hx hb dX2_nextToken_169 rfl (lv_at hl 0 rfl) ?_
  refine gM_88 hC hP dX2_nextToken_170 ?_
  obtain ⟨r_27, h_27, hE⟩ := ob hE
  refine m_calli [.int (a.1 7)] hC hP hS hl.1 (wX2_byteAt a (a.1 7) r_27 h_27) (cwV 1 hts lkX2_91 rfl rfl rfl cdX2_byteAt ⟨Nat.le_of_ble_eq_true rfl, Nat.le_of_ble_eq_true rfl⟩) rfl rfl (lv_room (Nat.le_of_ble_eq_true rfl)) dX2_nextToken_173 (fun H locs hP hS => ?_)
  obtain ⟨r_28, h_28, hE⟩ := ob hE
  refine s_calli [.int r_27] hC.sC hl.1 (wX2_isLetterByte r_27 r_28 h_28) (va_cwS 1 hts lkX2_108 rfl rfl rfl cdX2_isLetterByte ⟨Nat.le_of_ble_eq_true rfl, Nat.le_of_ble_eq_true rfl⟩) rfl rfl (lv_room (Nat.le_of_ble_eq_true rfl)) ⟨Nat.zero_le _, Nat.zero_le _⟩ dX2_nextToken_176 ?_
  refine lv_if_eq (tgt := 310) hx hb dX2_nextToken_179 (by decide) (fun c_29 => ?_) (fun c_29 => ?_)
  · have hE := ip c_29 hE
    exact hx1 _ (Option.some.inj hE).symm H locs ls hP hS (lv_sub hl [] rfl)
  · have hE := iq c_29 hE
    refine lv_aload_n hx hb dX2_nextToken_182 rfl (lv_at hl 0 rfl) ?_
    refine lv_aload_n hx hb dX2_nextToken_183 rfl (lv_at hl 0 rfl) ?_
    refine gM_111 hC hP dX2_nextToken_184 ?_
    refine lv_bipush (v := 48) hx hb dX2_nextToken_187 (by decide) ?_
    refine lv_lshr hx hb dX2_nextToken_189 rfl ?_
    refine lv_lconst (v := 0) hx hb dX2_nextToken_190 (by decide) ?_
    refine W.lcmp hx hb dX2_nextToken_191 ?_
    refine lv_if_eq (tgt := 201) hx hb dX2_nextToken_192 (by decide) (fun c_30 => ?_) (fun c_30 => ?_)
    · have hE := ip c_30 hE
      refine lv_aload_n hx hb dX2_nextToken_201 rfl (lv_at hl 0 rfl) ?_
      refine gM_111 hC hP dX2_nextToken_202 ?_
      refine lv_bipush (v := 8) hx hb dX2_nextToken_205 (by decide) ?_
      refine lv_lshl hx hb dX2_nextToken_207 rfl ?_
      refine lv_aload_n hx hb dX2_nextToken_208 rfl (lv_at hl 0 rfl) ?_
      refine lv_aload_n hx hb dX2_nextToken_209 rfl (lv_at hl 0 rfl) ?_
      refine gM_88 hC hP dX2_nextToken_210 ?_
      obtain ⟨r_31, h_31, hE⟩ := ob hE
      refine m_calli [.int (a.1 7)] hC hP hS hl.1 (wX2_byteAt a (a.1 7) r_31 h_31) (cwV 1 hts lkX2_91 rfl rfl rfl cdX2_byteAt ⟨Nat.le_of_ble_eq_true rfl, Nat.le_of_ble_eq_true rfl⟩) rfl rfl (lv_room (Nat.le_of_ble_eq_true rfl)) dX2_nextToken_213 (fun H locs hP hS => ?_)
      refine lv_i2l hx hb dX2_nextToken_216 rfl ?_
      refine lv_lor hx hb dX2_nextToken_217 ?_
      exact wX2_nextToken_J218 k a (((a.2.1 11) <<< (((8 : Int32)).toInt64 &&& 63)) ||| r_31.toInt64) hC y hE hc hx1 H locs ls hP hS hl
    · have hE := iq c_30 hE
      refine lv_ldc2 (v := 1152921504606846976) hx hb hown (hts _ q1528) dX2_nextToken_195 ?_
      refine lv_goto (tgt := 218) hx hb dX2_nextToken_198 (by decide) ?_
      exact wX2_nextToken_J218 k a (1152921504606846976 : Int64) hC y hE hc hx1 H locs ls hP hS hl
def fX2_nextToken_J135 (k : Nat) (z : MS) (t0 : Int32) : Option (MS ⊕ MS) := nm (mI z 10 t0) fun z_42 => nm (mI z_42 7 ((z_42.1 7) + (1 : Int32))) fun z_43 => some (.inl z_43)
set_option maxHeartbeats 1000000 in
theorem wX2_nextToken_J135 {p : Program} {l : Launch} {e : Env} {s : State} {m : MethodId} {args : Array Value} {below : List Frame} {meth : Method} {c : Code} {E : ME} {Q : State → Prop} (k : Nat) (z : MS) (t0 : Int32) (hC : mC E cX2_nextToken 2 none p s m args meth c) (y : MS ⊕ MS) (hE : fX2_nextToken_J135 k z t0 = some y) (hc : ∀ a : MS, y = .inl a → mW p l e rmX2_nextToken s m args below meth c E 2 Q 85 [(0, .ref (E.2.2.2.1 0))] [] a) (hx1 : ∀ b : MS, y = .inr b → mW p l e rmX2_nextToken s m args below meth c E 2 Q 310 [] [] b) : mW p l e rmX2_nextToken s m args below meth c E 2 Q 135 [(0, .ref (E.2.2.2.1 0))] [.int t0, .ref (E.2.2.2.1 0)] z := by
  intro H locs ls hP hS hl
  have hx := hC.1
  have hb := hC.2.1
  have hown := hC.2.2.2.2.2.1
  have hts := hC.2.2.2.2.2.2.1
  unfold fX2_nextToken_J135 at hE
  obtain ⟨z_42, ez_42, hE⟩ := on hE
  refine pM_104 hC hP hS ez_42 dX2_nextToken_135 (fun H locs hP hS => ?_)
  refine lv_aload_n hx hb dX2_nextToken_138 rfl (lv_at hl 0 rfl) ?_
  refine lv_dup hx hb dX2_nextToken_139 rfl ?_
  refine gM_88 hC hP dX2_nextToken_140 ?_
  refine lv_iconst (v := 1) hx hb dX2_nextToken_143 (by decide) ?_
  refine lv_iadd hx hb dX2_nextToken_144 ?_
  obtain ⟨z_43, ez_43, hE⟩ := on hE
  refine pM_88 hC hP hS ez_43 dX2_nextToken_145 (fun H locs hP hS => ?_)
  refine lv_goto (tgt := 85) hx hb dX2_nextToken_148 (by decide) ?_
  exact hc _ (Option.some.inj hE).symm H locs ls hP hS hl
def fX2_nextToken_B85 (k : Nat)  (a : MS) : Option (MS ⊕ MS) := (fX2_byteAt a (a.1 7)).bind fun r_37 => (fX2_isFigure r_37).bind fun r_38 => if r_38 = 0 then (some (.inr a)) else (if (a.1 10) ≤ (99999 : Int32) then ((fX2_byteAt a (a.1 7)).bind fun r_41 => (fX2_nextToken_J135 k a ((((10 : Int32) * (a.1 10)) + r_41) - (48 : Int32)))) else ((fX2_nextToken_J135 k a (a.1 10))))
set_option maxHeartbeats 1000000 in
theorem wX2_nextToken_B85 {p : Program} {l : Launch} {e : Env} {s : State} {m : MethodId} {args : Array Value} {below : List Frame} {meth : Method} {c : Code} {E : ME} {Q : State → Prop} (k : Nat)  (hC : mC E cX2_nextToken 2 none p s m args meth c) (a : MS) (y : MS ⊕ MS) (hE : fX2_nextToken_B85 k  a = some y) (hc : ∀ a : MS, y = .inl a → mW p l e rmX2_nextToken s m args below meth c E 2 Q 85 [(0, .ref (E.2.2.2.1 0))] [] a) (hx1 : ∀ b : MS, y = .inr b → mW p l e rmX2_nextToken s m args below meth c E 2 Q 310 [] [] b) : mW p l e rmX2_nextToken s m args below meth c E 2 Q 85 [(0, .ref (E.2.2.2.1 0))] [] a := by
  intro H locs ls hP hS hl
  have hx := hC.1
  have hb := hC.2.1
  have hown := hC.2.2.2.2.2.1
  have hts := hC.2.2.2.2.2.2.1
  unfold fX2_nextToken_B85 at hE
  refine lv_aload_n hx hb dX2_nextToken_85 rfl (lv_at hl 0 rfl) ?_
  refine lv_aload_n hx hb dX2_nextToken_86 rfl (lv_at hl 0 rfl) ?_
  refine gM_88 hC hP dX2_nextToken_87 ?_
  obtain ⟨r_37, h_37, hE⟩ := ob hE
  refine m_calli [.int (a.1 7)] hC hP hS hl.1 (wX2_byteAt a (a.1 7) r_37 h_37) (cwV 1 hts lkX2_91 rfl rfl rfl cdX2_byteAt ⟨Nat.le_of_ble_eq_true rfl, Nat.le_of_ble_eq_true rfl⟩) rfl rfl (lv_room (Nat.le_of_ble_eq_true rfl)) dX2_nextToken_90 (fun H locs hP hS => ?_)
  obtain ⟨r_38, h_38, hE⟩ := ob hE
  refine s_calli [.int r_37] hC.sC hl.1 (wX2_isFigure r_37 r_38 h_38) (va_cwS 1 hts lkX2_101 rfl rfl rfl cdX2_isFigure ⟨Nat.le_of_ble_eq_true rfl, Nat.le_of_ble_eq_true rfl⟩) rfl rfl (lv_room (Nat.le_of_ble_eq_true rfl)) ⟨Nat.zero_le _, Nat.zero_le _⟩ dX2_nextToken_93 ?_
  refine lv_if_eq (tgt := 310) hx hb dX2_nextToken_96 (by decide) (fun c_39 => ?_) (fun c_39 => ?_)
  · have hE := ip c_39 hE
    exact hx1 _ (Option.some.inj hE).symm H locs ls hP hS (lv_sub hl [] rfl)
  · have hE := iq c_39 hE
    refine lv_aload_n hx hb dX2_nextToken_99 rfl (lv_at hl 0 rfl) ?_
    refine lv_aload_n hx hb dX2_nextToken_100 rfl (lv_at hl 0 rfl) ?_
    refine gM_104 hC hP dX2_nextToken_101 ?_
    refine lv_ldc (v := 99999) hx hb hown (hts _ q1524) dX2_nextToken_104 ?_
    refine lv_icmp_le (tgt := 116) hx hb dX2_nextToken_106 (by decide) (fun c_40 => ?_) (fun c_40 => ?_)
    · have hE := ip c_40 hE
      refine lv_bipush (v := 10) hx hb dX2_nextToken_116 (by decide) ?_
      refine lv_aload_n hx hb dX2_nextToken_118 rfl (lv_at hl 0 rfl) ?_
      refine gM_104 hC hP dX2_nextToken_119 ?_
      refine lv_imul hx hb dX2_nextToken_122 ?_
      refine lv_aload_n hx hb dX2_nextToken_123 rfl (lv_at hl 0 rfl) ?_
      refine lv_aload_n hx hb dX2_nextToken_124 rfl (lv_at hl 0 rfl) ?_
      refine gM_88 hC hP dX2_nextToken_125 ?_
      obtain ⟨r_41, h_41, hE⟩ := ob hE
      refine m_calli [.int (a.1 7)] hC hP hS hl.1 (wX2_byteAt a (a.1 7) r_41 h_41) (cwV 1 hts lkX2_91 rfl rfl rfl cdX2_byteAt ⟨Nat.le_of_ble_eq_true rfl, Nat.le_of_ble_eq_true rfl⟩) rfl rfl (lv_room (Nat.le_of_ble_eq_true rfl)) dX2_nextToken_128 (fun H locs hP hS => ?_)
      refine lv_iadd hx hb dX2_nextToken_131 ?_
      refine lv_bipush (v := 48) hx hb dX2_nextToken_132 (by decide) ?_
      refine lv_isub hx hb dX2_nextToken_134 ?_
      exact wX2_nextToken_J135 k a ((((10 : Int32) * (a.1 10)) + r_41) - (48 : Int32)) hC y hE hc hx1 H locs ls hP hS hl
    · have hE := iq c_40 hE
      refine lv_aload_n hx hb dX2_nextToken_109 rfl (lv_at hl 0 rfl) ?_
      refine gM_104 hC hP dX2_nextToken_110 ?_
      refine lv_goto (tgt := 135) hx hb dX2_nextToken_113 (by decide) ?_
      exact wX2_nextToken_J135 k a (a.1 10) hC y hE hc hx1 H locs ls hP hS hl
def fX2_nextToken (k : Nat) (z : MS)  : Option MS := (lpo (fX2_nextToken_B0 k ) k z).bind fun x_6 => nm (mI x_6 8 (x_6.1 7)) fun z_7 => (fX2_byteAt z_7 (z_7.1 7)).bind fun r_8 => if 0 ≤ r_8 then ((fX2_isFigure r_8).bind fun r_10 => if r_10 = 0 then ((fX2_isLetterByte r_8).bind fun r_12 => if r_12 = 0 then ((fX2_isSign r_8).bind fun r_14 => if r_14 = 0 then ((fX2_nextToken_J247 k z_7 r_8 (3 : Int32))) else ((fX2_nextToken_J247 k z_7 r_8 r_8))) else (nm (mI z_7 9 (2 : Int32)) fun z_25 => nm (mJ z_25 11 (0 : Int64)) fun z_26 => (lpo (fX2_nextToken_B168 k ) k z_26).bind fun x_34 => some x_34)) else (nm (mI z_7 9 (1 : Int32)) fun z_35 => nm (mI z_35 10 (0 : Int32)) fun z_36 => (lpo (fX2_nextToken_B85 k ) k z_36).bind fun x_44 => some x_44)) else (nm (mI z_7 9 (0 : Int32)) fun z_45 => some z_45)
set_option maxHeartbeats 1000000 in
theorem wX2_nextToken {l : Launch} {E : ME} (k : Nat) (z : MS)  (y : MS) (hE : fX2_nextToken k z  = some y) : mM l yX2_nextToken (ws_ yX2_nextToken cX2_nextToken 2 none) rmX2_nextToken E z [] none y := by
  refine m_met (by decide) rfl (Nat.le_of_ble_eq_true rfl) (fun p e s m args below meth c hC => ?_)
  intro H locs ls hP hS hl
  have hx := hC.1
  have hb := hC.2.1
  have hown := hC.2.2.2.2.2.1
  have hts := hC.2.2.2.2.2.2.1
  have hl : lv_has ls 2 [(0, .ref (E.2.2.2.1 0))] := hl
  unfold fX2_nextToken at hE
  obtain ⟨x_6, h_6, hE⟩ := ob hE
  refine lpo_walk (fun p_6 : MS => mW p l e rmX2_nextToken s m args below meth c E 2 (mQ E below args s none y) 0 [(0, .ref (E.2.2.2.1 0))] [] p_6) (fun q_6 : MS => mW p l e rmX2_nextToken s m args below meth c E 2 (mQ E below args s none y) 39 [(0, .ref (E.2.2.2.1 0))] [] q_6) (fun a_6 y_6 hB_6 hc_6 hx_6 => wX2_nextToken_B0 k  hC a_6 y_6 hB_6 hc_6 hx_6) _ _ x_6 h_6 ?_ H locs ls hP hS hl
  intro H locs ls hP hS hl
  refine lv_aload_n hx hb dX2_nextToken_39 rfl (lv_at hl 0 rfl) ?_
  refine lv_aload_n hx hb dX2_nextToken_40 rfl (lv_at hl 0 rfl) ?_
  refine gM_88 hC hP dX2_nextToken_41 ?_
  obtain ⟨z_7, ez_7, hE⟩ := on hE
  refine pM_95 hC hP hS ez_7 dX2_nextToken_44 (fun H locs hP hS => ?_)
  refine lv_aload_n hx hb dX2_nextToken_47 rfl (lv_at hl 0 rfl) ?_
  refine lv_aload_n hx hb dX2_nextToken_48 rfl (lv_at hl 0 rfl) ?_
  refine gM_88 hC hP dX2_nextToken_49 ?_
  obtain ⟨r_8, h_8, hE⟩ := ob hE
  refine m_calli [.int (z_7.1 7)] hC hP hS hl.1 (wX2_byteAt z_7 (z_7.1 7) r_8 h_8) (cwV 1 hts lkX2_91 rfl rfl rfl cdX2_byteAt ⟨Nat.le_of_ble_eq_true rfl, Nat.le_of_ble_eq_true rfl⟩) rfl rfl (lv_room (Nat.le_of_ble_eq_true rfl)) dX2_nextToken_52 (fun H locs hP hS => ?_)
  refine lv_istore_n (lv' := [(1, .int r_8), (0, .ref (E.2.2.2.1 0))]) hx hb dX2_nextToken_55 rfl hl (Nat.le_of_ble_eq_true rfl) rfl (fun ls hl => ?_)
  refine lv_iload_n hx hb dX2_nextToken_56 rfl (lv_at hl 0 rfl) ?_
  refine lv_if_ge (tgt := 68) hx hb dX2_nextToken_57 (by decide) (fun c_9 => ?_) (fun c_9 => ?_)
  · have hE := ip c_9 hE
    refine lv_iload_n hx hb dX2_nextToken_68 rfl (lv_at hl 0 rfl) ?_
    obtain ⟨r_10, h_10, hE⟩ := ob hE
    refine s_calli [.int r_8] hC.sC hl.1 (wX2_isFigure r_8 r_10 h_10) (va_cwS 1 hts lkX2_101 rfl rfl rfl cdX2_isFigure ⟨Nat.le_of_ble_eq_true rfl, Nat.le_of_ble_eq_true rfl⟩) rfl rfl (lv_room (Nat.le_of_ble_eq_true rfl)) ⟨Nat.zero_le _, Nat.zero_le _⟩ dX2_nextToken_69 ?_
    refine lv_if_eq (tgt := 151) hx hb dX2_nextToken_72 (by decide) (fun c_11 => ?_) (fun c_11 => ?_)
    · have hE := ip c_11 hE
      refine lv_iload_n hx hb dX2_nextToken_151 rfl (lv_at hl 0 rfl) ?_
      obtain ⟨r_12, h_12, hE⟩ := ob hE
      refine s_calli [.int r_8] hC.sC hl.1 (wX2_isLetterByte r_8 r_12 h_12) (va_cwS 1 hts lkX2_108 rfl rfl rfl cdX2_isLetterByte ⟨Nat.le_of_ble_eq_true rfl, Nat.le_of_ble_eq_true rfl⟩) rfl rfl (lv_room (Nat.le_of_ble_eq_true rfl)) ⟨Nat.zero_le _, Nat.zero_le _⟩ dX2_nextToken_152 ?_
      refine lv_if_eq (tgt := 234) hx hb dX2_nextToken_155 (by decide) (fun c_13 => ?_) (fun c_13 => ?_)
      · have hE := ip c_13 hE
        refine lv_aload_n hx hb dX2_nextToken_234 rfl (lv_at hl 1 rfl) ?_
        refine lv_iload_n hx hb dX2_nextToken_235 rfl (lv_at hl 0 rfl) ?_
        obtain ⟨r_14, h_14, hE⟩ := ob hE
        refine s_calli [.int r_8] hC.sC hl.1 (wX2_isSign r_8 r_14 h_14) (va_cwS 1 hts lkX2_117 rfl rfl rfl cdX2_isSign ⟨Nat.le_of_ble_eq_true rfl, Nat.le_of_ble_eq_true rfl⟩) rfl rfl (lv_room (Nat.le_of_ble_eq_true rfl)) ⟨Nat.zero_le _, Nat.zero_le _⟩ dX2_nextToken_236 ?_
        refine lv_if_eq (tgt := 246) hx hb dX2_nextToken_239 (by decide) (fun c_15 => ?_) (fun c_15 => ?_)
        · have hE := ip c_15 hE
          refine lv_iconst (v := 3) hx hb dX2_nextToken_246 (by decide) ?_
          exact wX2_nextToken_J247 k z_7 r_8 (3 : Int32) hC y hE H locs ls hP hS (lv_sub hl [1, 0] rfl)
        · have hE := iq c_15 hE
          refine lv_iload_n hx hb dX2_nextToken_242 rfl (lv_at hl 0 rfl) ?_
          refine lv_goto (tgt := 247) hx hb dX2_nextToken_243 (by decide) ?_
          exact wX2_nextToken_J247 k z_7 r_8 r_8 hC y hE H locs ls hP hS (lv_sub hl [1, 0] rfl)
      · have hE := iq c_13 hE
        refine lv_aload_n hx hb dX2_nextToken_158 rfl (lv_at hl 1 rfl) ?_
        refine lv_iconst (v := 2) hx hb dX2_nextToken_159 (by decide) ?_
        obtain ⟨z_25, ez_25, hE⟩ := on hE
        refine pM_98 hC hP hS ez_25 dX2_nextToken_160 (fun H locs hP hS => ?_)
        refine lv_aload_n hx hb dX2_nextToken_163 rfl (lv_at hl 1 rfl) ?_
        refine lv_lconst (v := 0) hx hb dX2_nextToken_164 (by decide) ?_
        obtain ⟨z_26, ez_26, hE⟩ := on hE
        refine pM_111 hC hP hS ez_26 dX2_nextToken_165 (fun H locs hP hS => ?_)
        obtain ⟨x_34, h_34, hE⟩ := ob hE
        refine lpo_walk (fun p_34 : MS => mW p l e rmX2_nextToken s m args below meth c E 2 (mQ E below args s none y) 168 [(0, .ref (E.2.2.2.1 0))] [] p_34) (fun q_34 : MS => mW p l e rmX2_nextToken s m args below meth c E 2 (mQ E below args s none y) 310 [] [] q_34) (fun a_34 y_34 hB_34 hc_34 hx_34 => wX2_nextToken_B168 k  hC a_34 y_34 hB_34 hc_34 hx_34) _ _ x_34 h_34 ?_ H locs ls hP hS (lv_sub hl [1] rfl)
        intro H locs ls hP hS hl
        obtain rfl := Option.some.inj hE
        exact m_vret hC hP hS dX2_nextToken_310
    · have hE := iq c_11 hE
      refine lv_aload_n hx hb dX2_nextToken_75 rfl (lv_at hl 1 rfl) ?_
      refine lv_iconst (v := 1) hx hb dX2_nextToken_76 (by decide) ?_
      obtain ⟨z_35, ez_35, hE⟩ := on hE
      refine pM_98 hC hP hS ez_35 dX2_nextToken_77 (fun H locs hP hS => ?_)
      refine lv_aload_n hx hb dX2_nextToken_80 rfl (lv_at hl 1 rfl) ?_
      refine lv_iconst (v := 0) hx hb dX2_nextToken_81 (by decide) ?_
      obtain ⟨z_36, ez_36, hE⟩ := on hE
      refine pM_104 hC hP hS ez_36 dX2_nextToken_82 (fun H locs hP hS => ?_)
      obtain ⟨x_44, h_44, hE⟩ := ob hE
      refine lpo_walk (fun p_44 : MS => mW p l e rmX2_nextToken s m args below meth c E 2 (mQ E below args s none y) 85 [(0, .ref (E.2.2.2.1 0))] [] p_44) (fun q_44 : MS => mW p l e rmX2_nextToken s m args below meth c E 2 (mQ E below args s none y) 310 [] [] q_44) (fun a_44 y_44 hB_44 hc_44 hx_44 => wX2_nextToken_B85 k  hC a_44 y_44 hB_44 hc_44 hx_44) _ _ x_44 h_44 ?_ H locs ls hP hS (lv_sub hl [1] rfl)
      intro H locs ls hP hS hl
      obtain rfl := Option.some.inj hE
      exact m_vret hC hP hS dX2_nextToken_310
  · have hE := iq c_9 hE
    refine lv_aload_n hx hb dX2_nextToken_60 rfl (lv_at hl 1 rfl) ?_
    refine lv_iconst (v := 0) hx hb dX2_nextToken_61 (by decide) ?_
    obtain ⟨z_45, ez_45, hE⟩ := on hE
    refine pM_98 hC hP hS ez_45 dX2_nextToken_62 (fun H locs hP hS => ?_)
    refine lv_goto (tgt := 310) hx hb dX2_nextToken_65 (by decide) ?_
    obtain rfl := Option.some.inj hE
    exact m_vret hC hP hS dX2_nextToken_310
def fX2_w2 (x0 : Int32) (x1 : Int32) : Option Int64 := some ((x0.toInt64 <<< (((8 : Int32)).toInt64 &&& 63)) ||| x1.toInt64)
set_option maxHeartbeats 1000000 in
theorem wX2_w2 {l : Launch} (x0 : Int32) (x1 : Int32) (y : Int64) (hE : fX2_w2 x0 x1 = some y) : sM l yX2_w2 (ws_ yX2_w2 cX2_w2 2 (some .long)) rmX2_w2 [.int x0, .int x1] (some (.long y)) := by
  refine s_met (own := RX2) (by decide) rfl (Nat.le_of_ble_eq_true rfl) (fun p e s m args below meth c hC => ?_)
  intro ls hl
  have hx := hC.1
  have hb := hC.2.1
  have hown := hC.2.2.2.2.2.1
  have hts := hC.2.2.2.2.2.2
  have hl : lv_has ls 2 [(0, .int x0), (1, .int x1)] := hl
  unfold fX2_w2 at hE
  refine lv_iload_n hx hb dX2_w2_0 rfl (lv_at hl 0 rfl) ?_
  refine lv_i2l hx hb dX2_w2_1 rfl ?_
  refine lv_bipush (v := 8) hx hb dX2_w2_2 (by decide) ?_
  refine lv_lshl hx hb dX2_w2_4 rfl ?_
  refine lv_iload_n hx hb dX2_w2_5 rfl (lv_at hl 1 rfl) ?_
  refine lv_i2l hx hb dX2_w2_6 rfl ?_
  refine lv_lor hx hb dX2_w2_7 ?_
  obtain rfl := Option.some.inj hE
  exact s_lret hC dX2_w2_8
def fX2_w3 (x0 : Int32) (x1 : Int32) (x2 : Int32) : Option Int64 := (fX2_w2 x0 x1).bind fun r_1 => some ((r_1 <<< (((8 : Int32)).toInt64 &&& 63)) ||| x2.toInt64)
set_option maxHeartbeats 1000000 in
theorem wX2_w3 {l : Launch} (x0 : Int32) (x1 : Int32) (x2 : Int32) (y : Int64) (hE : fX2_w3 x0 x1 x2 = some y) : sM l yX2_w3 (ws_ yX2_w3 cX2_w3 3 (some .long)) rmX2_w3 [.int x0, .int x1, .int x2] (some (.long y)) := by
  refine s_met (own := RX2) (by decide) rfl (Nat.le_of_ble_eq_true rfl) (fun p e s m args below meth c hC => ?_)
  intro ls hl
  have hx := hC.1
  have hb := hC.2.1
  have hown := hC.2.2.2.2.2.1
  have hts := hC.2.2.2.2.2.2
  have hl : lv_has ls 3 [(0, .int x0), (1, .int x1), (2, .int x2)] := hl
  unfold fX2_w3 at hE
  refine lv_iload_n hx hb dX2_w3_0 rfl (lv_at hl 0 rfl) ?_
  refine lv_iload_n hx hb dX2_w3_1 rfl (lv_at hl 1 rfl) ?_
  obtain ⟨r_1, h_1, hE⟩ := ob hE
  refine s_calll [.int x0, .int x1] hC hl.1 (wX2_w2 x0 x1 r_1 h_1) (va_cwS 2 hts lkX2_120 rfl rfl rfl cdX2_w2 ⟨Nat.le_of_ble_eq_true rfl, Nat.le_of_ble_eq_true rfl⟩) rfl rfl (lv_room (Nat.le_of_ble_eq_true rfl)) ⟨Nat.zero_le _, Nat.zero_le _⟩ dX2_w3_2 ?_
  refine lv_bipush (v := 8) hx hb dX2_w3_5 (by decide) ?_
  refine lv_lshl hx hb dX2_w3_7 rfl ?_
  refine lv_iload_n hx hb dX2_w3_8 rfl (lv_at hl 2 rfl) ?_
  refine lv_i2l hx hb dX2_w3_9 rfl ?_
  refine lv_lor hx hb dX2_w3_10 ?_
  obtain rfl := Option.some.inj hE
  exact s_lret hC dX2_w3_11
def fX2_w4 (x0 : Int32) (x1 : Int32) (x2 : Int32) (x3 : Int32) : Option Int64 := (fX2_w3 x0 x1 x2).bind fun r_1 => some ((r_1 <<< (((8 : Int32)).toInt64 &&& 63)) ||| x3.toInt64)
set_option maxHeartbeats 1000000 in
theorem wX2_w4 {l : Launch} (x0 : Int32) (x1 : Int32) (x2 : Int32) (x3 : Int32) (y : Int64) (hE : fX2_w4 x0 x1 x2 x3 = some y) : sM l yX2_w4 (ws_ yX2_w4 cX2_w4 4 (some .long)) rmX2_w4 [.int x0, .int x1, .int x2, .int x3] (some (.long y)) := by
  refine s_met (own := RX2) (by decide) rfl (Nat.le_of_ble_eq_true rfl) (fun p e s m args below meth c hC => ?_)
  intro ls hl
  have hx := hC.1
  have hb := hC.2.1
  have hown := hC.2.2.2.2.2.1
  have hts := hC.2.2.2.2.2.2
  have hl : lv_has ls 4 [(0, .int x0), (1, .int x1), (2, .int x2), (3, .int x3)] := hl
  unfold fX2_w4 at hE
  refine lv_iload_n hx hb dX2_w4_0 rfl (lv_at hl 0 rfl) ?_
  refine lv_iload_n hx hb dX2_w4_1 rfl (lv_at hl 1 rfl) ?_
  refine lv_iload_n hx hb dX2_w4_2 rfl (lv_at hl 2 rfl) ?_
  obtain ⟨r_1, h_1, hE⟩ := ob hE
  refine s_calll [.int x0, .int x1, .int x2] hC hl.1 (wX2_w3 x0 x1 x2 r_1 h_1) (va_cwS 3 hts lkX2_124 rfl rfl rfl cdX2_w3 ⟨Nat.le_of_ble_eq_true rfl, Nat.le_of_ble_eq_true rfl⟩) rfl rfl (lv_room (Nat.le_of_ble_eq_true rfl)) ⟨Nat.zero_le _, Nat.zero_le _⟩ dX2_w4_3 ?_
  refine lv_bipush (v := 8) hx hb dX2_w4_6 (by decide) ?_
  refine lv_lshl hx hb dX2_w4_8 rfl ?_
  refine lv_iload_n hx hb dX2_w4_9 rfl (lv_at hl 3 rfl) ?_
  refine lv_i2l hx hb dX2_w4_10 rfl ?_
  refine lv_lor hx hb dX2_w4_11 ?_
  obtain rfl := Option.some.inj hE
  exact s_lret hC dX2_w4_12
def fX2_isCatches (z : MS)  : Option Int32 := if (z.1 9) = (2 : Int32) then (if ((z.1 7) - (z.1 8)) = (7 : Int32) then ((fX2_byteAt z (z.1 8)).bind fun r_3 => (fX2_byteAt z ((z.1 8) + (1 : Int32))).bind fun r_4 => (fX2_byteAt z ((z.1 8) + (2 : Int32))).bind fun r_5 => (fX2_byteAt z ((z.1 8) + (3 : Int32))).bind fun r_6 => (fX2_w4 r_3 r_4 r_5 r_6).bind fun r_7 => (fX2_w4 (99 : Int32) (97 : Int32) (116 : Int32) (99 : Int32)).bind fun r_8 => if (lg_cmp r_7 r_8) = 0 then ((fX2_byteAt z ((z.1 8) + (4 : Int32))).bind fun r_10 => (fX2_byteAt z ((z.1 8) + (5 : Int32))).bind fun r_11 => (fX2_byteAt z ((z.1 8) + (6 : Int32))).bind fun r_12 => (fX2_w3 r_10 r_11 r_12).bind fun r_13 => (fX2_w3 (104 : Int32) (101 : Int32) (115 : Int32)).bind fun r_14 => if (lg_cmp r_13 r_14) = 0 then (some (1 : Int32)) else (some (0 : Int32))) else (some (0 : Int32))) else (some (0 : Int32))) else (some (0 : Int32))
set_option maxHeartbeats 1000000 in
theorem wX2_isCatches {l : Launch} {E : ME} (z : MS)  (y : Int32) (hE : fX2_isCatches z  = some y) : mM l yX2_isCatches (ws_ yX2_isCatches cX2_isCatches 1 (some .boolean)) rmX2_isCatches E z [] (some (.int y)) z := by
  refine m_met (by decide) rfl (Nat.le_of_ble_eq_true rfl) (fun p e s m args below meth c hC => ?_)
  intro H locs ls hP hS hl
  have hx := hC.1
  have hb := hC.2.1
  have hown := hC.2.2.2.2.2.1
  have hts := hC.2.2.2.2.2.2.1
  have hl : lv_has ls 1 [(0, .ref (E.2.2.2.1 0))] := hl
  unfold fX2_isCatches at hE
  refine lv_aload_n hx hb dX2_isCatches_0 rfl (lv_at hl 0 rfl) ?_
  refine gM_98 hC hP dX2_isCatches_1 ?_
  refine lv_iconst (v := 2) hx hb dX2_isCatches_4 (by decide) ?_
  refine lv_icmp_ne (tgt := 129) hx hb dX2_isCatches_5 (by decide) (fun c_1 => ?_) (fun c_1 => ?_)
  · have hE := iq c_1 hE
    refine lv_iconst (v := 0) hx hb dX2_isCatches_129 (by decide) ?_
    obtain rfl := Option.some.inj hE
    exact m_zret (v := (0 : Int32)) hC hP hS (by decide) dX2_isCatches_130
  · have hE := ip c_1 hE
    refine lv_aload_n hx hb dX2_isCatches_8 rfl (lv_at hl 0 rfl) ?_
    refine gM_88 hC hP dX2_isCatches_9 ?_
    refine lv_aload_n hx hb dX2_isCatches_12 rfl (lv_at hl 0 rfl) ?_
    refine gM_95 hC hP dX2_isCatches_13 ?_
    refine lv_isub hx hb dX2_isCatches_16 ?_
    refine lv_bipush (v := 7) hx hb dX2_isCatches_17 (by decide) ?_
    refine lv_icmp_ne (tgt := 129) hx hb dX2_isCatches_19 (by decide) (fun c_2 => ?_) (fun c_2 => ?_)
    · have hE := iq c_2 hE
      refine lv_iconst (v := 0) hx hb dX2_isCatches_129 (by decide) ?_
      obtain rfl := Option.some.inj hE
      exact m_zret (v := (0 : Int32)) hC hP hS (by decide) dX2_isCatches_130
    · have hE := ip c_2 hE
      refine lv_aload_n hx hb dX2_isCatches_22 rfl (lv_at hl 0 rfl) ?_
      refine lv_aload_n hx hb dX2_isCatches_23 rfl (lv_at hl 0 rfl) ?_
      refine gM_95 hC hP dX2_isCatches_24 ?_
      obtain ⟨r_3, h_3, hE⟩ := ob hE
      refine m_calli [.int (z.1 8)] hC hP hS hl.1 (wX2_byteAt z (z.1 8) r_3 h_3) (cwV 1 hts lkX2_91 rfl rfl rfl cdX2_byteAt ⟨Nat.le_of_ble_eq_true rfl, Nat.le_of_ble_eq_true rfl⟩) rfl rfl (lv_room (Nat.le_of_ble_eq_true rfl)) dX2_isCatches_27 (fun H locs hP hS => ?_)
      refine lv_aload_n hx hb dX2_isCatches_30 rfl (lv_at hl 0 rfl) ?_
      refine lv_aload_n hx hb dX2_isCatches_31 rfl (lv_at hl 0 rfl) ?_
      refine gM_95 hC hP dX2_isCatches_32 ?_
      refine lv_iconst (v := 1) hx hb dX2_isCatches_35 (by decide) ?_
      refine lv_iadd hx hb dX2_isCatches_36 ?_
      obtain ⟨r_4, h_4, hE⟩ := ob hE
      refine m_calli [.int ((z.1 8) + (1 : Int32))] hC hP hS hl.1 (wX2_byteAt z ((z.1 8) + (1 : Int32)) r_4 h_4) (cwV 1 hts lkX2_91 rfl rfl rfl cdX2_byteAt ⟨Nat.le_of_ble_eq_true rfl, Nat.le_of_ble_eq_true rfl⟩) rfl rfl (lv_room (Nat.le_of_ble_eq_true rfl)) dX2_isCatches_37 (fun H locs hP hS => ?_)
      refine lv_aload_n hx hb dX2_isCatches_40 rfl (lv_at hl 0 rfl) ?_
      refine lv_aload_n hx hb dX2_isCatches_41 rfl (lv_at hl 0 rfl) ?_
      refine gM_95 hC hP dX2_isCatches_42 ?_
      refine lv_iconst (v := 2) hx hb dX2_isCatches_45 (by decide) ?_
      refine lv_iadd hx hb dX2_isCatches_46 ?_
      obtain ⟨r_5, h_5, hE⟩ := ob hE
      refine m_calli [.int ((z.1 8) + (2 : Int32))] hC hP hS hl.1 (wX2_byteAt z ((z.1 8) + (2 : Int32)) r_5 h_5) (cwV 1 hts lkX2_91 rfl rfl rfl cdX2_byteAt ⟨Nat.le_of_ble_eq_true rfl, Nat.le_of_ble_eq_true rfl⟩) rfl rfl (lv_room (Nat.le_of_ble_eq_true rfl)) dX2_isCatches_47 (fun H locs hP hS => ?_)
      refine lv_aload_n hx hb dX2_isCatches_50 rfl (lv_at hl 0 rfl) ?_
      refine lv_aload_n hx hb dX2_isCatches_51 rfl (lv_at hl 0 rfl) ?_
      refine gM_95 hC hP dX2_isCatches_52 ?_
      refine lv_iconst (v := 3) hx hb dX2_isCatches_55 (by decide) ?_
      refine lv_iadd hx hb dX2_isCatches_56 ?_
      obtain ⟨r_6, h_6, hE⟩ := ob hE
      refine m_calli [.int ((z.1 8) + (3 : Int32))] hC hP hS hl.1 (wX2_byteAt z ((z.1 8) + (3 : Int32)) r_6 h_6) (cwV 1 hts lkX2_91 rfl rfl rfl cdX2_byteAt ⟨Nat.le_of_ble_eq_true rfl, Nat.le_of_ble_eq_true rfl⟩) rfl rfl (lv_room (Nat.le_of_ble_eq_true rfl)) dX2_isCatches_57 (fun H locs hP hS => ?_)
      obtain ⟨r_7, h_7, hE⟩ := ob hE
      refine s_calll [.int r_3, .int r_4, .int r_5, .int r_6] hC.sC hl.1 (wX2_w4 r_3 r_4 r_5 r_6 r_7 h_7) (va_cwS 4 hts lkX2_128 rfl rfl rfl cdX2_w4 ⟨Nat.le_of_ble_eq_true rfl, Nat.le_of_ble_eq_true rfl⟩) rfl rfl (lv_room (Nat.le_of_ble_eq_true rfl)) ⟨Nat.zero_le _, Nat.zero_le _⟩ dX2_isCatches_60 ?_
      refine lv_bipush (v := 99) hx hb dX2_isCatches_63 (by decide) ?_
      refine lv_bipush (v := 97) hx hb dX2_isCatches_65 (by decide) ?_
      refine lv_bipush (v := 116) hx hb dX2_isCatches_67 (by decide) ?_
      refine lv_bipush (v := 99) hx hb dX2_isCatches_69 (by decide) ?_
      obtain ⟨r_8, h_8, hE⟩ := ob hE
      refine s_calll [.int (99 : Int32), .int (97 : Int32), .int (116 : Int32), .int (99 : Int32)] hC.sC hl.1 (wX2_w4 (99 : Int32) (97 : Int32) (116 : Int32) (99 : Int32) r_8 h_8) (va_cwS 4 hts lkX2_128 rfl rfl rfl cdX2_w4 ⟨Nat.le_of_ble_eq_true rfl, Nat.le_of_ble_eq_true rfl⟩) rfl rfl (lv_room (Nat.le_of_ble_eq_true rfl)) ⟨Nat.zero_le _, Nat.zero_le _⟩ dX2_isCatches_71 ?_
      refine W.lcmp hx hb dX2_isCatches_74 ?_
      refine lv_if_ne (tgt := 129) hx hb dX2_isCatches_75 (by decide) (fun c_9 => ?_) (fun c_9 => ?_)
      · have hE := iq c_9 hE
        refine lv_iconst (v := 0) hx hb dX2_isCatches_129 (by decide) ?_
        obtain rfl := Option.some.inj hE
        exact m_zret (v := (0 : Int32)) hC hP hS (by decide) dX2_isCatches_130
      · have hE := ip c_9 hE
        refine lv_aload_n hx hb dX2_isCatches_78 rfl (lv_at hl 0 rfl) ?_
        refine lv_aload_n hx hb dX2_isCatches_79 rfl (lv_at hl 0 rfl) ?_
        refine gM_95 hC hP dX2_isCatches_80 ?_
        refine lv_iconst (v := 4) hx hb dX2_isCatches_83 (by decide) ?_
        refine lv_iadd hx hb dX2_isCatches_84 ?_
        obtain ⟨r_10, h_10, hE⟩ := ob hE
        refine m_calli [.int ((z.1 8) + (4 : Int32))] hC hP hS hl.1 (wX2_byteAt z ((z.1 8) + (4 : Int32)) r_10 h_10) (cwV 1 hts lkX2_91 rfl rfl rfl cdX2_byteAt ⟨Nat.le_of_ble_eq_true rfl, Nat.le_of_ble_eq_true rfl⟩) rfl rfl (lv_room (Nat.le_of_ble_eq_true rfl)) dX2_isCatches_85 (fun H locs hP hS => ?_)
        refine lv_aload_n hx hb dX2_isCatches_88 rfl (lv_at hl 0 rfl) ?_
        refine lv_aload_n hx hb dX2_isCatches_89 rfl (lv_at hl 0 rfl) ?_
        refine gM_95 hC hP dX2_isCatches_90 ?_
        refine lv_iconst (v := 5) hx hb dX2_isCatches_93 (by decide) ?_
        refine lv_iadd hx hb dX2_isCatches_94 ?_
        obtain ⟨r_11, h_11, hE⟩ := ob hE
        refine m_calli [.int ((z.1 8) + (5 : Int32))] hC hP hS hl.1 (wX2_byteAt z ((z.1 8) + (5 : Int32)) r_11 h_11) (cwV 1 hts lkX2_91 rfl rfl rfl cdX2_byteAt ⟨Nat.le_of_ble_eq_true rfl, Nat.le_of_ble_eq_true rfl⟩) rfl rfl (lv_room (Nat.le_of_ble_eq_true rfl)) dX2_isCatches_95 (fun H locs hP hS => ?_)
        refine lv_aload_n hx hb dX2_isCatches_98 rfl (lv_at hl 0 rfl) ?_
        refine lv_aload_n hx hb dX2_isCatches_99 rfl (lv_at hl 0 rfl) ?_
        refine gM_95 hC hP dX2_isCatches_100 ?_
        refine lv_bipush (v := 6) hx hb dX2_isCatches_103 (by decide) ?_
        refine lv_iadd hx hb dX2_isCatches_105 ?_
        obtain ⟨r_12, h_12, hE⟩ := ob hE
        refine m_calli [.int ((z.1 8) + (6 : Int32))] hC hP hS hl.1 (wX2_byteAt z ((z.1 8) + (6 : Int32)) r_12 h_12) (cwV 1 hts lkX2_91 rfl rfl rfl cdX2_byteAt ⟨Nat.le_of_ble_eq_true rfl, Nat.le_of_ble_eq_true rfl⟩) rfl rfl (lv_room (Nat.le_of_ble_eq_true rfl)) dX2_isCatches_106 (fun H locs hP hS => ?_)
        obtain ⟨r_13, h_13, hE⟩ := ob hE
        refine s_calll [.int r_10, .int r_11, .int r_12] hC.sC hl.1 (wX2_w3 r_10 r_11 r_12 r_13 h_13) (va_cwS 3 hts lkX2_124 rfl rfl rfl cdX2_w3 ⟨Nat.le_of_ble_eq_true rfl, Nat.le_of_ble_eq_true rfl⟩) rfl rfl (lv_room (Nat.le_of_ble_eq_true rfl)) ⟨Nat.zero_le _, Nat.zero_le _⟩ dX2_isCatches_109 ?_
        refine lv_bipush (v := 104) hx hb dX2_isCatches_112 (by decide) ?_
        refine lv_bipush (v := 101) hx hb dX2_isCatches_114 (by decide) ?_
        refine lv_bipush (v := 115) hx hb dX2_isCatches_116 (by decide) ?_
        obtain ⟨r_14, h_14, hE⟩ := ob hE
        refine s_calll [.int (104 : Int32), .int (101 : Int32), .int (115 : Int32)] hC.sC hl.1 (wX2_w3 (104 : Int32) (101 : Int32) (115 : Int32) r_14 h_14) (va_cwS 3 hts lkX2_124 rfl rfl rfl cdX2_w3 ⟨Nat.le_of_ble_eq_true rfl, Nat.le_of_ble_eq_true rfl⟩) rfl rfl (lv_room (Nat.le_of_ble_eq_true rfl)) ⟨Nat.zero_le _, Nat.zero_le _⟩ dX2_isCatches_118 ?_
        refine W.lcmp hx hb dX2_isCatches_121 ?_
        refine lv_if_ne (tgt := 129) hx hb dX2_isCatches_122 (by decide) (fun c_15 => ?_) (fun c_15 => ?_)
        · have hE := iq c_15 hE
          refine lv_iconst (v := 0) hx hb dX2_isCatches_129 (by decide) ?_
          obtain rfl := Option.some.inj hE
          exact m_zret (v := (0 : Int32)) hC hP hS (by decide) dX2_isCatches_130
        · have hE := ip c_15 hE
          refine lv_iconst (v := 1) hx hb dX2_isCatches_125 (by decide) ?_
          refine lv_goto (tgt := 130) hx hb dX2_isCatches_126 (by decide) ?_
          obtain rfl := Option.some.inj hE
          exact m_zret (v := (1 : Int32)) hC hP hS (by decide) dX2_isCatches_130
def fX2_w5 (x0 : Int32) (x1 : Int32) (x2 : Int32) (x3 : Int32) (x4 : Int32) : Option Int64 := (fX2_w4 x0 x1 x2 x3).bind fun r_1 => some ((r_1 <<< (((8 : Int32)).toInt64 &&& 63)) ||| x4.toInt64)
set_option maxHeartbeats 1000000 in
theorem wX2_w5 {l : Launch} (x0 : Int32) (x1 : Int32) (x2 : Int32) (x3 : Int32) (x4 : Int32) (y : Int64) (hE : fX2_w5 x0 x1 x2 x3 x4 = some y) : sM l yX2_w5 (ws_ yX2_w5 cX2_w5 5 (some .long)) rmX2_w5 [.int x0, .int x1, .int x2, .int x3, .int x4] (some (.long y)) := by
  refine s_met (own := RX2) (by decide) rfl (Nat.le_of_ble_eq_true rfl) (fun p e s m args below meth c hC => ?_)
  intro ls hl
  have hx := hC.1
  have hb := hC.2.1
  have hown := hC.2.2.2.2.2.1
  have hts := hC.2.2.2.2.2.2
  have hl : lv_has ls 5 [(0, .int x0), (1, .int x1), (2, .int x2), (3, .int x3), (4, .int x4)] := hl
  unfold fX2_w5 at hE
  refine lv_iload_n hx hb dX2_w5_0 rfl (lv_at hl 0 rfl) ?_
  refine lv_iload_n hx hb dX2_w5_1 rfl (lv_at hl 1 rfl) ?_
  refine lv_iload_n hx hb dX2_w5_2 rfl (lv_at hl 2 rfl) ?_
  refine lv_iload_n hx hb dX2_w5_3 rfl (lv_at hl 3 rfl) ?_
  obtain ⟨r_1, h_1, hE⟩ := ob hE
  refine s_calll [.int x0, .int x1, .int x2, .int x3] hC hl.1 (wX2_w4 x0 x1 x2 x3 r_1 h_1) (va_cwS 4 hts lkX2_128 rfl rfl rfl cdX2_w4 ⟨Nat.le_of_ble_eq_true rfl, Nat.le_of_ble_eq_true rfl⟩) rfl rfl (lv_room (Nat.le_of_ble_eq_true rfl)) ⟨Nat.zero_le _, Nat.zero_le _⟩ dX2_w5_4 ?_
  refine lv_bipush (v := 8) hx hb dX2_w5_7 (by decide) ?_
  refine lv_lshl hx hb dX2_w5_9 rfl ?_
  refine lv_iload hx hb dX2_w5_10 (lv_at hl 4 rfl) ?_
  refine lv_i2l hx hb dX2_w5_12 rfl ?_
  refine lv_lor hx hb dX2_w5_13 ?_
  obtain rfl := Option.some.inj hE
  exact s_lret hC dX2_w5_14
def fX2_w6 (x0 : Int32) (x1 : Int32) (x2 : Int32) (x3 : Int32) (x4 : Int32) (x5 : Int32) : Option Int64 := (fX2_w5 x0 x1 x2 x3 x4).bind fun r_1 => some ((r_1 <<< (((8 : Int32)).toInt64 &&& 63)) ||| x5.toInt64)
set_option maxHeartbeats 1000000 in
theorem wX2_w6 {l : Launch} (x0 : Int32) (x1 : Int32) (x2 : Int32) (x3 : Int32) (x4 : Int32) (x5 : Int32) (y : Int64) (hE : fX2_w6 x0 x1 x2 x3 x4 x5 = some y) : sM l yX2_w6 (ws_ yX2_w6 cX2_w6 6 (some .long)) rmX2_w6 [.int x0, .int x1, .int x2, .int x3, .int x4, .int x5] (some (.long y)) := by
  refine s_met (own := RX2) (by decide) rfl (Nat.le_of_ble_eq_true rfl) (fun p e s m args below meth c hC => ?_)
  intro ls hl
  have hx := hC.1
  have hb := hC.2.1
  have hown := hC.2.2.2.2.2.1
  have hts := hC.2.2.2.2.2.2
  have hl : lv_has ls 6 [(0, .int x0), (1, .int x1), (2, .int x2), (3, .int x3), (4, .int x4), (5, .int x5)] := hl
  unfold fX2_w6 at hE
  refine lv_iload_n hx hb dX2_w6_0 rfl (lv_at hl 0 rfl) ?_
  refine lv_iload_n hx hb dX2_w6_1 rfl (lv_at hl 1 rfl) ?_
  refine lv_iload_n hx hb dX2_w6_2 rfl (lv_at hl 2 rfl) ?_
  refine lv_iload_n hx hb dX2_w6_3 rfl (lv_at hl 3 rfl) ?_
  refine lv_iload hx hb dX2_w6_4 (lv_at hl 4 rfl) ?_
  obtain ⟨r_1, h_1, hE⟩ := ob hE
  refine s_calll [.int x0, .int x1, .int x2, .int x3, .int x4] hC hl.1 (wX2_w5 x0 x1 x2 x3 x4 r_1 h_1) (va_cwS 5 hts lkX2_132 rfl rfl rfl cdX2_w5 ⟨Nat.le_of_ble_eq_true rfl, Nat.le_of_ble_eq_true rfl⟩) rfl rfl (lv_room (Nat.le_of_ble_eq_true rfl)) ⟨Nat.zero_le _, Nat.zero_le _⟩ dX2_w6_6 ?_
  refine lv_bipush (v := 8) hx hb dX2_w6_9 (by decide) ?_
  refine lv_lshl hx hb dX2_w6_11 rfl ?_
  refine lv_iload hx hb dX2_w6_12 (lv_at hl 5 rfl) ?_
  refine lv_i2l hx hb dX2_w6_14 rfl ?_
  refine lv_lor hx hb dX2_w6_15 ?_
  obtain rfl := Option.some.inj hE
  exact s_lret hC dX2_w6_16
def fX2_isWord (z : MS) (x1 : Int64) : Option Int32 := if (z.1 9) = (2 : Int32) then (if (lg_cmp (z.2.1 11) x1) = 0 then (some (1 : Int32)) else (some (0 : Int32))) else (some (0 : Int32))
set_option maxHeartbeats 1000000 in
theorem wX2_isWord {l : Launch} {E : ME} (z : MS) (x1 : Int64) (y : Int32) (hE : fX2_isWord z x1 = some y) : mM l yX2_isWord (ws_ yX2_isWord cX2_isWord 3 (some .boolean)) rmX2_isWord E z [.long x1] (some (.int y)) z := by
  refine m_met (by decide) rfl (Nat.le_of_ble_eq_true rfl) (fun p e s m args below meth c hC => ?_)
  intro H locs ls hP hS hl
  have hx := hC.1
  have hb := hC.2.1
  have hown := hC.2.2.2.2.2.1
  have hts := hC.2.2.2.2.2.2.1
  have hl : lv_has ls 3 [(0, .ref (E.2.2.2.1 0)), (1, .long x1)] := hl
  unfold fX2_isWord at hE
  refine lv_aload_n hx hb dX2_isWord_0 rfl (lv_at hl 0 rfl) ?_
  refine gM_98 hC hP dX2_isWord_1 ?_
  refine lv_iconst (v := 2) hx hb dX2_isWord_4 (by decide) ?_
  refine lv_icmp_ne (tgt := 21) hx hb dX2_isWord_5 (by decide) (fun c_1 => ?_) (fun c_1 => ?_)
  · have hE := iq c_1 hE
    refine lv_iconst (v := 0) hx hb dX2_isWord_21 (by decide) ?_
    obtain rfl := Option.some.inj hE
    exact m_zret (v := (0 : Int32)) hC hP hS (by decide) dX2_isWord_22
  · have hE := ip c_1 hE
    refine lv_aload_n hx hb dX2_isWord_8 rfl (lv_at hl 0 rfl) ?_
    refine gM_111 hC hP dX2_isWord_9 ?_
    refine lv_lload_n hx hb dX2_isWord_12 rfl (lv_at hl 1 rfl) ?_
    refine W.lcmp hx hb dX2_isWord_13 ?_
    refine lv_if_ne (tgt := 21) hx hb dX2_isWord_14 (by decide) (fun c_2 => ?_) (fun c_2 => ?_)
    · have hE := iq c_2 hE
      refine lv_iconst (v := 0) hx hb dX2_isWord_21 (by decide) ?_
      obtain rfl := Option.some.inj hE
      exact m_zret (v := (0 : Int32)) hC hP hS (by decide) dX2_isWord_22
    · have hE := ip c_2 hE
      refine lv_iconst (v := 1) hx hb dX2_isWord_17 (by decide) ?_
      refine lv_goto (tgt := 22) hx hb dX2_isWord_18 (by decide) ?_
      obtain rfl := Option.some.inj hE
      exact m_zret (v := (1 : Int32)) hC hP hS (by decide) dX2_isWord_22
def fX2_sortOf (z : MS)  : Option Int32 := (fX2_isCatches z ).bind fun r_1 => if r_1 = 0 then ((fX2_w6 (112 : Int32) (97 : Int32) (105 : Int32) (110 : Int32) (116 : Int32) (115 : Int32)).bind fun r_3 => (fX2_isWord z r_3).bind fun r_4 => if r_4 = 0 then ((fX2_w5 (112 : Int32) (108 : Int32) (97 : Int32) (99 : Int32) (101 : Int32)).bind fun r_6 => (fX2_isWord z r_6).bind fun r_7 => if r_7 = 0 then ((fX2_w5 (112 : Int32) (97 : Int32) (105 : Int32) (110 : Int32) (116 : Int32)).bind fun r_9 => (fX2_isWord z r_9).bind fun r_10 => if r_10 = 0 then ((fX2_w5 (99 : Int32) (104 : Int32) (105 : Int32) (108 : Int32) (100 : Int32)).bind fun r_12 => (fX2_isWord z r_12).bind fun r_13 => if r_13 = 0 then ((fX2_w3 (114 : Int32) (117 : Int32) (110 : Int32)).bind fun r_15 => (fX2_isWord z r_15).bind fun r_16 => if r_16 = 0 then ((fX2_w3 (99 : Int32) (117 : Int32) (116 : Int32)).bind fun r_18 => (fX2_isWord z r_18).bind fun r_19 => if r_19 = 0 then ((fX2_w3 (97 : Int32) (100 : Int32) (100 : Int32)).bind fun r_21 => (fX2_isWord z r_21).bind fun r_22 => if r_22 = 0 then ((fX2_w4 (121 : Int32) (101 : Int32) (97 : Int32) (114 : Int32)).bind fun r_24 => (fX2_isWord z r_24).bind fun r_25 => if r_25 = 0 then (some (-1 : Int32)) else (some (8 : Int32))) else (some (7 : Int32))) else (some (6 : Int32))) else (some (5 : Int32))) else (some (4 : Int32))) else (some (3 : Int32))) else (some (2 : Int32))) else (some (1 : Int32))) else (some (0 : Int32))
set_option maxHeartbeats 1000000 in
theorem wX2_sortOf {l : Launch} {E : ME} (z : MS)  (y : Int32) (hE : fX2_sortOf z  = some y) : mM l yX2_sortOf (ws_ yX2_sortOf cX2_sortOf 1 (some .int)) rmX2_sortOf E z [] (some (.int y)) z := by
  refine m_met (by decide) rfl (Nat.le_of_ble_eq_true rfl) (fun p e s m args below meth c hC => ?_)
  intro H locs ls hP hS hl
  have hx := hC.1
  have hb := hC.2.1
  have hown := hC.2.2.2.2.2.1
  have hts := hC.2.2.2.2.2.2.1
  have hl : lv_has ls 1 [(0, .ref (E.2.2.2.1 0))] := hl
  unfold fX2_sortOf at hE
  refine lv_aload_n hx hb dX2_sortOf_0 rfl (lv_at hl 0 rfl) ?_
  obtain ⟨r_1, h_1, hE⟩ := ob hE
  refine m_calli [] hC hP hS hl.1 (wX2_isCatches z  r_1 h_1) (cwV 0 hts lkX2_226 rfl rfl rfl cdX2_isCatches ⟨Nat.le_of_ble_eq_true rfl, Nat.le_of_ble_eq_true rfl⟩) rfl rfl (lv_room (Nat.le_of_ble_eq_true rfl)) dX2_sortOf_1 (fun H locs hP hS => ?_)
  refine lv_if_eq (tgt := 9) hx hb dX2_sortOf_4 (by decide) (fun c_2 => ?_) (fun c_2 => ?_)
  · have hE := ip c_2 hE
    refine lv_aload_n hx hb dX2_sortOf_9 rfl (lv_at hl 0 rfl) ?_
    refine lv_bipush (v := 112) hx hb dX2_sortOf_10 (by decide) ?_
    refine lv_bipush (v := 97) hx hb dX2_sortOf_12 (by decide) ?_
    refine lv_bipush (v := 105) hx hb dX2_sortOf_14 (by decide) ?_
    refine lv_bipush (v := 110) hx hb dX2_sortOf_16 (by decide) ?_
    refine lv_bipush (v := 116) hx hb dX2_sortOf_18 (by decide) ?_
    refine lv_bipush (v := 115) hx hb dX2_sortOf_20 (by decide) ?_
    obtain ⟨r_3, h_3, hE⟩ := ob hE
    refine s_calll [.int (112 : Int32), .int (97 : Int32), .int (105 : Int32), .int (110 : Int32), .int (116 : Int32), .int (115 : Int32)] hC.sC hl.1 (wX2_w6 (112 : Int32) (97 : Int32) (105 : Int32) (110 : Int32) (116 : Int32) (115 : Int32) r_3 h_3) (va_cwS 6 hts lkX2_142 rfl rfl rfl cdX2_w6 ⟨Nat.le_of_ble_eq_true rfl, Nat.le_of_ble_eq_true rfl⟩) rfl rfl (lv_room (Nat.le_of_ble_eq_true rfl)) ⟨Nat.zero_le _, Nat.zero_le _⟩ dX2_sortOf_22 ?_
    obtain ⟨r_4, h_4, hE⟩ := ob hE
    refine m_calli [.long r_3] hC hP hS hl.1 (wX2_isWord z r_3 r_4 h_4) (cwV 1 hts lkX2_180 rfl rfl rfl cdX2_isWord ⟨Nat.le_of_ble_eq_true rfl, Nat.le_of_ble_eq_true rfl⟩) rfl rfl (lv_room (Nat.le_of_ble_eq_true rfl)) dX2_sortOf_25 (fun H locs hP hS => ?_)
    refine lv_if_eq (tgt := 33) hx hb dX2_sortOf_28 (by decide) (fun c_5 => ?_) (fun c_5 => ?_)
    · have hE := ip c_5 hE
      refine lv_aload_n hx hb dX2_sortOf_33 rfl (lv_at hl 0 rfl) ?_
      refine lv_bipush (v := 112) hx hb dX2_sortOf_34 (by decide) ?_
      refine lv_bipush (v := 108) hx hb dX2_sortOf_36 (by decide) ?_
      refine lv_bipush (v := 97) hx hb dX2_sortOf_38 (by decide) ?_
      refine lv_bipush (v := 99) hx hb dX2_sortOf_40 (by decide) ?_
      refine lv_bipush (v := 101) hx hb dX2_sortOf_42 (by decide) ?_
      obtain ⟨r_6, h_6, hE⟩ := ob hE
      refine s_calll [.int (112 : Int32), .int (108 : Int32), .int (97 : Int32), .int (99 : Int32), .int (101 : Int32)] hC.sC hl.1 (wX2_w5 (112 : Int32) (108 : Int32) (97 : Int32) (99 : Int32) (101 : Int32) r_6 h_6) (va_cwS 5 hts lkX2_132 rfl rfl rfl cdX2_w5 ⟨Nat.le_of_ble_eq_true rfl, Nat.le_of_ble_eq_true rfl⟩) rfl rfl (lv_room (Nat.le_of_ble_eq_true rfl)) ⟨Nat.zero_le _, Nat.zero_le _⟩ dX2_sortOf_44 ?_
      obtain ⟨r_7, h_7, hE⟩ := ob hE
      refine m_calli [.long r_6] hC hP hS hl.1 (wX2_isWord z r_6 r_7 h_7) (cwV 1 hts lkX2_180 rfl rfl rfl cdX2_isWord ⟨Nat.le_of_ble_eq_true rfl, Nat.le_of_ble_eq_true rfl⟩) rfl rfl (lv_room (Nat.le_of_ble_eq_true rfl)) dX2_sortOf_47 (fun H locs hP hS => ?_)
      refine lv_if_eq (tgt := 55) hx hb dX2_sortOf_50 (by decide) (fun c_8 => ?_) (fun c_8 => ?_)
      · have hE := ip c_8 hE
        refine lv_aload_n hx hb dX2_sortOf_55 rfl (lv_at hl 0 rfl) ?_
        refine lv_bipush (v := 112) hx hb dX2_sortOf_56 (by decide) ?_
        refine lv_bipush (v := 97) hx hb dX2_sortOf_58 (by decide) ?_
        refine lv_bipush (v := 105) hx hb dX2_sortOf_60 (by decide) ?_
        refine lv_bipush (v := 110) hx hb dX2_sortOf_62 (by decide) ?_
        refine lv_bipush (v := 116) hx hb dX2_sortOf_64 (by decide) ?_
        obtain ⟨r_9, h_9, hE⟩ := ob hE
        refine s_calll [.int (112 : Int32), .int (97 : Int32), .int (105 : Int32), .int (110 : Int32), .int (116 : Int32)] hC.sC hl.1 (wX2_w5 (112 : Int32) (97 : Int32) (105 : Int32) (110 : Int32) (116 : Int32) r_9 h_9) (va_cwS 5 hts lkX2_132 rfl rfl rfl cdX2_w5 ⟨Nat.le_of_ble_eq_true rfl, Nat.le_of_ble_eq_true rfl⟩) rfl rfl (lv_room (Nat.le_of_ble_eq_true rfl)) ⟨Nat.zero_le _, Nat.zero_le _⟩ dX2_sortOf_66 ?_
        obtain ⟨r_10, h_10, hE⟩ := ob hE
        refine m_calli [.long r_9] hC hP hS hl.1 (wX2_isWord z r_9 r_10 h_10) (cwV 1 hts lkX2_180 rfl rfl rfl cdX2_isWord ⟨Nat.le_of_ble_eq_true rfl, Nat.le_of_ble_eq_true rfl⟩) rfl rfl (lv_room (Nat.le_of_ble_eq_true rfl)) dX2_sortOf_69 (fun H locs hP hS => ?_)
        refine lv_if_eq (tgt := 77) hx hb dX2_sortOf_72 (by decide) (fun c_11 => ?_) (fun c_11 => ?_)
        · have hE := ip c_11 hE
          refine lv_aload_n hx hb dX2_sortOf_77 rfl (lv_at hl 0 rfl) ?_
          refine lv_bipush (v := 99) hx hb dX2_sortOf_78 (by decide) ?_
          refine lv_bipush (v := 104) hx hb dX2_sortOf_80 (by decide) ?_
          refine lv_bipush (v := 105) hx hb dX2_sortOf_82 (by decide) ?_
          refine lv_bipush (v := 108) hx hb dX2_sortOf_84 (by decide) ?_
          refine lv_bipush (v := 100) hx hb dX2_sortOf_86 (by decide) ?_
          obtain ⟨r_12, h_12, hE⟩ := ob hE
          refine s_calll [.int (99 : Int32), .int (104 : Int32), .int (105 : Int32), .int (108 : Int32), .int (100 : Int32)] hC.sC hl.1 (wX2_w5 (99 : Int32) (104 : Int32) (105 : Int32) (108 : Int32) (100 : Int32) r_12 h_12) (va_cwS 5 hts lkX2_132 rfl rfl rfl cdX2_w5 ⟨Nat.le_of_ble_eq_true rfl, Nat.le_of_ble_eq_true rfl⟩) rfl rfl (lv_room (Nat.le_of_ble_eq_true rfl)) ⟨Nat.zero_le _, Nat.zero_le _⟩ dX2_sortOf_88 ?_
          obtain ⟨r_13, h_13, hE⟩ := ob hE
          refine m_calli [.long r_12] hC hP hS hl.1 (wX2_isWord z r_12 r_13 h_13) (cwV 1 hts lkX2_180 rfl rfl rfl cdX2_isWord ⟨Nat.le_of_ble_eq_true rfl, Nat.le_of_ble_eq_true rfl⟩) rfl rfl (lv_room (Nat.le_of_ble_eq_true rfl)) dX2_sortOf_91 (fun H locs hP hS => ?_)
          refine lv_if_eq (tgt := 99) hx hb dX2_sortOf_94 (by decide) (fun c_14 => ?_) (fun c_14 => ?_)
          · have hE := ip c_14 hE
            refine lv_aload_n hx hb dX2_sortOf_99 rfl (lv_at hl 0 rfl) ?_
            refine lv_bipush (v := 114) hx hb dX2_sortOf_100 (by decide) ?_
            refine lv_bipush (v := 117) hx hb dX2_sortOf_102 (by decide) ?_
            refine lv_bipush (v := 110) hx hb dX2_sortOf_104 (by decide) ?_
            obtain ⟨r_15, h_15, hE⟩ := ob hE
            refine s_calll [.int (114 : Int32), .int (117 : Int32), .int (110 : Int32)] hC.sC hl.1 (wX2_w3 (114 : Int32) (117 : Int32) (110 : Int32) r_15 h_15) (va_cwS 3 hts lkX2_124 rfl rfl rfl cdX2_w3 ⟨Nat.le_of_ble_eq_true rfl, Nat.le_of_ble_eq_true rfl⟩) rfl rfl (lv_room (Nat.le_of_ble_eq_true rfl)) ⟨Nat.zero_le _, Nat.zero_le _⟩ dX2_sortOf_106 ?_
            obtain ⟨r_16, h_16, hE⟩ := ob hE
            refine m_calli [.long r_15] hC hP hS hl.1 (wX2_isWord z r_15 r_16 h_16) (cwV 1 hts lkX2_180 rfl rfl rfl cdX2_isWord ⟨Nat.le_of_ble_eq_true rfl, Nat.le_of_ble_eq_true rfl⟩) rfl rfl (lv_room (Nat.le_of_ble_eq_true rfl)) dX2_sortOf_109 (fun H locs hP hS => ?_)
            refine lv_if_eq (tgt := 117) hx hb dX2_sortOf_112 (by decide) (fun c_17 => ?_) (fun c_17 => ?_)
            · have hE := ip c_17 hE
              refine lv_aload_n hx hb dX2_sortOf_117 rfl (lv_at hl 0 rfl) ?_
              refine lv_bipush (v := 99) hx hb dX2_sortOf_118 (by decide) ?_
              refine lv_bipush (v := 117) hx hb dX2_sortOf_120 (by decide) ?_
              refine lv_bipush (v := 116) hx hb dX2_sortOf_122 (by decide) ?_
              obtain ⟨r_18, h_18, hE⟩ := ob hE
              refine s_calll [.int (99 : Int32), .int (117 : Int32), .int (116 : Int32)] hC.sC hl.1 (wX2_w3 (99 : Int32) (117 : Int32) (116 : Int32) r_18 h_18) (va_cwS 3 hts lkX2_124 rfl rfl rfl cdX2_w3 ⟨Nat.le_of_ble_eq_true rfl, Nat.le_of_ble_eq_true rfl⟩) rfl rfl (lv_room (Nat.le_of_ble_eq_true rfl)) ⟨Nat.zero_le _, Nat.zero_le _⟩ dX2_sortOf_124 ?_
              obtain ⟨r_19, h_19, hE⟩ := ob hE
              refine m_calli [.long r_18] hC hP hS hl.1 (wX2_isWord z r_18 r_19 h_19) (cwV 1 hts lkX2_180 rfl rfl rfl cdX2_isWord ⟨Nat.le_of_ble_eq_true rfl, Nat.le_of_ble_eq_true rfl⟩) rfl rfl (lv_room (Nat.le_of_ble_eq_true rfl)) dX2_sortOf_127 (fun H locs hP hS => ?_)
              refine lv_if_eq (tgt := 136) hx hb dX2_sortOf_130 (by decide) (fun c_20 => ?_) (fun c_20 => ?_)
              · have hE := ip c_20 hE
                refine lv_aload_n hx hb dX2_sortOf_136 rfl (lv_at hl 0 rfl) ?_
                refine lv_bipush (v := 97) hx hb dX2_sortOf_137 (by decide) ?_
                refine lv_bipush (v := 100) hx hb dX2_sortOf_139 (by decide) ?_
                refine lv_bipush (v := 100) hx hb dX2_sortOf_141 (by decide) ?_
                obtain ⟨r_21, h_21, hE⟩ := ob hE
                refine s_calll [.int (97 : Int32), .int (100 : Int32), .int (100 : Int32)] hC.sC hl.1 (wX2_w3 (97 : Int32) (100 : Int32) (100 : Int32) r_21 h_21) (va_cwS 3 hts lkX2_124 rfl rfl rfl cdX2_w3 ⟨Nat.le_of_ble_eq_true rfl, Nat.le_of_ble_eq_true rfl⟩) rfl rfl (lv_room (Nat.le_of_ble_eq_true rfl)) ⟨Nat.zero_le _, Nat.zero_le _⟩ dX2_sortOf_143 ?_
                obtain ⟨r_22, h_22, hE⟩ := ob hE
                refine m_calli [.long r_21] hC hP hS hl.1 (wX2_isWord z r_21 r_22 h_22) (cwV 1 hts lkX2_180 rfl rfl rfl cdX2_isWord ⟨Nat.le_of_ble_eq_true rfl, Nat.le_of_ble_eq_true rfl⟩) rfl rfl (lv_room (Nat.le_of_ble_eq_true rfl)) dX2_sortOf_146 (fun H locs hP hS => ?_)
                refine lv_if_eq (tgt := 157) hx hb dX2_sortOf_149 (by decide) (fun c_23 => ?_) (fun c_23 => ?_)
                · have hE := ip c_23 hE
                  refine lv_aload_n hx hb dX2_sortOf_157 rfl (lv_at hl 0 rfl) ?_
                  refine lv_bipush (v := 121) hx hb dX2_sortOf_158 (by decide) ?_
                  refine lv_bipush (v := 101) hx hb dX2_sortOf_160 (by decide) ?_
                  refine lv_bipush (v := 97) hx hb dX2_sortOf_162 (by decide) ?_
                  refine lv_bipush (v := 114) hx hb dX2_sortOf_164 (by decide) ?_
                  obtain ⟨r_24, h_24, hE⟩ := ob hE
                  refine s_calll [.int (121 : Int32), .int (101 : Int32), .int (97 : Int32), .int (114 : Int32)] hC.sC hl.1 (wX2_w4 (121 : Int32) (101 : Int32) (97 : Int32) (114 : Int32) r_24 h_24) (va_cwS 4 hts lkX2_128 rfl rfl rfl cdX2_w4 ⟨Nat.le_of_ble_eq_true rfl, Nat.le_of_ble_eq_true rfl⟩) rfl rfl (lv_room (Nat.le_of_ble_eq_true rfl)) ⟨Nat.zero_le _, Nat.zero_le _⟩ dX2_sortOf_166 ?_
                  obtain ⟨r_25, h_25, hE⟩ := ob hE
                  refine m_calli [.long r_24] hC hP hS hl.1 (wX2_isWord z r_24 r_25 h_25) (cwV 1 hts lkX2_180 rfl rfl rfl cdX2_isWord ⟨Nat.le_of_ble_eq_true rfl, Nat.le_of_ble_eq_true rfl⟩) rfl rfl (lv_room (Nat.le_of_ble_eq_true rfl)) dX2_sortOf_169 (fun H locs hP hS => ?_)
                  refine lv_if_eq (tgt := 180) hx hb dX2_sortOf_172 (by decide) (fun c_26 => ?_) (fun c_26 => ?_)
                  · have hE := ip c_26 hE
                    refine lv_iconst (v := -1) hx hb dX2_sortOf_180 (by decide) ?_
                    obtain rfl := Option.some.inj hE
                    exact m_iret hC hP hS dX2_sortOf_181
                  · have hE := iq c_26 hE
                    refine lv_bipush (v := 8) hx hb dX2_sortOf_175 (by decide) ?_
                    refine lv_goto (tgt := 181) hx hb dX2_sortOf_177 (by decide) ?_
                    obtain rfl := Option.some.inj hE
                    exact m_iret hC hP hS dX2_sortOf_181
                · have hE := iq c_23 hE
                  refine lv_bipush (v := 7) hx hb dX2_sortOf_152 (by decide) ?_
                  refine lv_goto (tgt := 181) hx hb dX2_sortOf_154 (by decide) ?_
                  obtain rfl := Option.some.inj hE
                  exact m_iret hC hP hS dX2_sortOf_181
              · have hE := iq c_20 hE
                refine lv_bipush (v := 6) hx hb dX2_sortOf_133 (by decide) ?_
                obtain rfl := Option.some.inj hE
                exact m_iret hC hP hS dX2_sortOf_135
            · have hE := iq c_17 hE
              refine lv_iconst (v := 5) hx hb dX2_sortOf_115 (by decide) ?_
              obtain rfl := Option.some.inj hE
              exact m_iret hC hP hS dX2_sortOf_116
          · have hE := iq c_14 hE
            refine lv_iconst (v := 4) hx hb dX2_sortOf_97 (by decide) ?_
            obtain rfl := Option.some.inj hE
            exact m_iret hC hP hS dX2_sortOf_98
        · have hE := iq c_11 hE
          refine lv_iconst (v := 3) hx hb dX2_sortOf_75 (by decide) ?_
          obtain rfl := Option.some.inj hE
          exact m_iret hC hP hS dX2_sortOf_76
      · have hE := iq c_8 hE
        refine lv_iconst (v := 2) hx hb dX2_sortOf_53 (by decide) ?_
        obtain rfl := Option.some.inj hE
        exact m_iret hC hP hS dX2_sortOf_54
    · have hE := iq c_5 hE
      refine lv_iconst (v := 1) hx hb dX2_sortOf_31 (by decide) ?_
      obtain rfl := Option.some.inj hE
      exact m_iret hC hP hS dX2_sortOf_32
  · have hE := iq c_2 hE
    refine lv_iconst (v := 0) hx hb dX2_sortOf_7 (by decide) ?_
    obtain rfl := Option.some.inj hE
    exact m_iret hC hP hS dX2_sortOf_8
def fX2_has (x0 : Int32) (x1 : Int32) : Option Int32 := if ((x0 >>> (x1 &&& 31)) &&& (1 : Int32)) = (1 : Int32) then (some (1 : Int32)) else (some (0 : Int32))
set_option maxHeartbeats 1000000 in
theorem wX2_has {l : Launch} (x0 : Int32) (x1 : Int32) (y : Int32) (hE : fX2_has x0 x1 = some y) : sM l yX2_has (ws_ yX2_has cX2_has 2 (some .boolean)) rmX2_has [.int x0, .int x1] (some (.int y)) := by
  refine s_met (own := RX2) (by decide) rfl (Nat.le_of_ble_eq_true rfl) (fun p e s m args below meth c hC => ?_)
  intro ls hl
  have hx := hC.1
  have hb := hC.2.1
  have hown := hC.2.2.2.2.2.1
  have hts := hC.2.2.2.2.2.2
  have hl : lv_has ls 2 [(0, .int x0), (1, .int x1)] := hl
  unfold fX2_has at hE
  refine lv_iload_n hx hb dX2_has_0 rfl (lv_at hl 0 rfl) ?_
  refine lv_iload_n hx hb dX2_has_1 rfl (lv_at hl 1 rfl) ?_
  refine lv_ishr hx hb dX2_has_2 ?_
  refine lv_iconst (v := 1) hx hb dX2_has_3 (by decide) ?_
  refine lv_iand hx hb dX2_has_4 ?_
  refine lv_iconst (v := 1) hx hb dX2_has_5 (by decide) ?_
  refine lv_icmp_ne (tgt := 13) hx hb dX2_has_6 (by decide) (fun c_1 => ?_) (fun c_1 => ?_)
  · have hE := iq c_1 hE
    refine lv_iconst (v := 0) hx hb dX2_has_13 (by decide) ?_
    obtain rfl := Option.some.inj hE
    exact s_zret (v := (0 : Int32)) hC (by decide) dX2_has_14
  · have hE := ip c_1 hE
    refine lv_iconst (v := 1) hx hb dX2_has_9 (by decide) ?_
    refine lv_goto (tgt := 14) hx hb dX2_has_10 (by decide) ?_
    obtain rfl := Option.some.inj hE
    exact s_zret (v := (1 : Int32)) hC (by decide) dX2_has_14
def fX2_figure (k : Nat) (z : MS) (x1 : Int32) (x2 : Int32) (x3 : Int32) : Option (Int32 × MS) := if (z.1 9) = (1 : Int32) then ((fX2_isIn (z.1 10) x2 x3).bind fun r_2 => if r_2 = 0 then (some ((2 : Int32), z)) else (if ib x1 2724 then none else (nm (mA z 2 (upd (z.2.2.1 2) x1.toNatClampNeg (z.1 10))) fun z_4 => (fX2_nextToken k z_4 ).bind fun r_5 => some ((0 : Int32), r_5)))) else (some ((1 : Int32), z))
set_option maxHeartbeats 1000000 in
theorem wX2_figure {l : Launch} {E : ME} (k : Nat) (z : MS) (x1 : Int32) (x2 : Int32) (x3 : Int32) (y : Int32 × MS) (hE : fX2_figure k z x1 x2 x3 = some y) : mM l yX2_figure (ws_ yX2_figure cX2_figure 4 (some .int)) rmX2_figure E z [.int x1, .int x2, .int x3] (some (.int y.1)) y.2 := by
  refine m_met (by decide) rfl (Nat.le_of_ble_eq_true rfl) (fun p e s m args below meth c hC => ?_)
  intro H locs ls hP hS hl
  have hx := hC.1
  have hb := hC.2.1
  have hown := hC.2.2.2.2.2.1
  have hts := hC.2.2.2.2.2.2.1
  have hl : lv_has ls 4 [(0, .ref (E.2.2.2.1 0)), (1, .int x1), (2, .int x2), (3, .int x3)] := hl
  unfold fX2_figure at hE
  refine lv_aload_n hx hb dX2_figure_0 rfl (lv_at hl 0 rfl) ?_
  refine gM_98 hC hP dX2_figure_1 ?_
  refine lv_iconst (v := 1) hx hb dX2_figure_4 (by decide) ?_
  refine lv_icmp_eq (tgt := 10) hx hb dX2_figure_5 (by decide) (fun c_1 => ?_) (fun c_1 => ?_)
  · have hE := ip c_1 hE
    refine lv_aload_n hx hb dX2_figure_10 rfl (lv_at hl 0 rfl) ?_
    refine gM_104 hC hP dX2_figure_11 ?_
    refine lv_iload_n hx hb dX2_figure_14 rfl (lv_at hl 2 rfl) ?_
    refine lv_iload_n hx hb dX2_figure_15 rfl (lv_at hl 3 rfl) ?_
    obtain ⟨r_2, h_2, hE⟩ := ob hE
    refine s_calli [.int (z.1 10), .int x2, .int x3] hC.sC hl.1 (wX2_isIn (z.1 10) x2 x3 r_2 h_2) (va_cwS 3 hts lkX2_69 rfl rfl rfl cdX2_isIn ⟨Nat.le_of_ble_eq_true rfl, Nat.le_of_ble_eq_true rfl⟩) rfl rfl (lv_room (Nat.le_of_ble_eq_true rfl)) ⟨Nat.zero_le _, Nat.zero_le _⟩ dX2_figure_16 ?_
    refine lv_if_ne (tgt := 24) hx hb dX2_figure_19 (by decide) (fun c_3 => ?_) (fun c_3 => ?_)
    · have hE := iq c_3 hE
      refine lv_aload_n hx hb dX2_figure_24 rfl (lv_at hl 0 rfl) ?_
      refine gM_16 hC hP dX2_figure_25 ?_
      refine lv_iload_n hx hb dX2_figure_28 rfl (lv_at hl 1 rfl) ?_
      refine lv_aload_n hx hb dX2_figure_29 rfl (lv_at hl 0 rfl) ?_
      refine gM_104 hC hP dX2_figure_30 ?_
      obtain ⟨c_4, hE⟩ := og hE
      obtain ⟨z_4, ez_4, hE⟩ := on hE
      refine tM_2 hC hP hS c_4 ez_4 dX2_figure_33 (fun H locs hP hS => ?_)
      refine lv_aload_n hx hb dX2_figure_34 rfl (lv_at hl 0 rfl) ?_
      obtain ⟨r_5, h_5, hE⟩ := ob hE
      refine m_callv [] hC hP hS hl.1 (wX2_nextToken k z_4  r_5 h_5) (cwV 0 hts lkX2_165 rfl rfl rfl cdX2_nextToken ⟨Nat.le_of_ble_eq_true rfl, Nat.le_of_ble_eq_true rfl⟩) rfl rfl (lv_room (Nat.le_of_ble_eq_true rfl)) dX2_figure_35 (fun H locs hP hS => ?_)
      refine lv_iconst (v := 0) hx hb dX2_figure_38 (by decide) ?_
      obtain rfl := Option.some.inj hE
      exact m_iret hC hP hS dX2_figure_39
    · have hE := ip c_3 hE
      refine lv_iconst (v := 2) hx hb dX2_figure_22 (by decide) ?_
      obtain rfl := Option.some.inj hE
      exact m_iret hC hP hS dX2_figure_23
  · have hE := iq c_1 hE
    refine lv_iconst (v := 1) hx hb dX2_figure_8 (by decide) ?_
    obtain rfl := Option.some.inj hE
    exact m_iret hC hP hS dX2_figure_9
def fX2_pair (k : Nat) (z : MS) (x1 : Int32) (x2 : Int32) (x3 : Int32) (x4 : Int64) (x6 : Int32) : Option (Int32 × MS) := (fX2_figure k z (x1 + (1 : Int32)) x2 x3).bind fun r_1 => if r_1.1 = 0 then ((fX2_isWord r_1.2 x4).bind fun r_3 => if r_3 = 0 then (some ((1 : Int32), r_1.2)) else ((fX2_nextToken k r_1.2 ).bind fun r_5 => (fX2_figure k r_5 (x1 + (2 : Int32)) (0 : Int32) x6).bind fun r_6 => some (r_6.1, r_6.2))) else (some (r_1.1, r_1.2))
set_option maxHeartbeats 1000000 in
theorem wX2_pair {l : Launch} {E : ME} (k : Nat) (z : MS) (x1 : Int32) (x2 : Int32) (x3 : Int32) (x4 : Int64) (x6 : Int32) (y : Int32 × MS) (hE : fX2_pair k z x1 x2 x3 x4 x6 = some y) : mM l yX2_pair (ws_ yX2_pair cX2_pair 8 (some .int)) rmX2_pair E z [.int x1, .int x2, .int x3, .long x4, .int x6] (some (.int y.1)) y.2 := by
  refine m_met (by decide) rfl (Nat.le_of_ble_eq_true rfl) (fun p e s m args below meth c hC => ?_)
  intro H locs ls hP hS hl
  have hx := hC.1
  have hb := hC.2.1
  have hown := hC.2.2.2.2.2.1
  have hts := hC.2.2.2.2.2.2.1
  have hl : lv_has ls 8 [(0, .ref (E.2.2.2.1 0)), (1, .int x1), (2, .int x2), (3, .int x3), (4, .long x4), (6, .int x6)] := hl
  unfold fX2_pair at hE
  refine lv_aload_n hx hb dX2_pair_0 rfl (lv_at hl 0 rfl) ?_
  refine lv_iload_n hx hb dX2_pair_1 rfl (lv_at hl 1 rfl) ?_
  refine lv_iconst (v := 1) hx hb dX2_pair_2 (by decide) ?_
  refine lv_iadd hx hb dX2_pair_3 ?_
  refine lv_iload_n hx hb dX2_pair_4 rfl (lv_at hl 2 rfl) ?_
  refine lv_iload_n hx hb dX2_pair_5 rfl (lv_at hl 3 rfl) ?_
  obtain ⟨r_1, h_1, hE⟩ := ob hE
  refine m_calli [.int (x1 + (1 : Int32)), .int x2, .int x3] hC hP hS hl.1 (wX2_figure k z (x1 + (1 : Int32)) x2 x3 r_1 h_1) (cwV 3 hts lkX2_215 rfl rfl rfl cdX2_figure ⟨Nat.le_of_ble_eq_true rfl, Nat.le_of_ble_eq_true rfl⟩) rfl rfl (lv_room (Nat.le_of_ble_eq_true rfl)) dX2_pair_6 (fun H locs hP hS => ?_)
  refine lv_istore (lv' := [(7, .int r_1.1), (0, .ref (E.2.2.2.1 0)), (1, .int x1), (2, .int x2), (3, .int x3), (4, .long x4), (6, .int x6)]) hx hb dX2_pair_9 hl (Nat.le_of_ble_eq_true rfl) rfl (fun ls hl => ?_)
  refine lv_iload hx hb dX2_pair_11 (lv_at hl 0 rfl) ?_
  refine lv_if_eq (tgt := 19) hx hb dX2_pair_13 (by decide) (fun c_2 => ?_) (fun c_2 => ?_)
  · have hE := ip c_2 hE
    refine lv_aload_n hx hb dX2_pair_19 rfl (lv_at hl 1 rfl) ?_
    refine lv_lload hx hb dX2_pair_20 (lv_at hl 5 rfl) ?_
    obtain ⟨r_3, h_3, hE⟩ := ob hE
    refine m_calli [.long x4] hC hP hS hl.1 (wX2_isWord r_1.2 x4 r_3 h_3) (cwV 1 hts lkX2_180 rfl rfl rfl cdX2_isWord ⟨Nat.le_of_ble_eq_true rfl, Nat.le_of_ble_eq_true rfl⟩) rfl rfl (lv_room (Nat.le_of_ble_eq_true rfl)) dX2_pair_22 (fun H locs hP hS => ?_)
    refine lv_if_ne (tgt := 30) hx hb dX2_pair_25 (by decide) (fun c_4 => ?_) (fun c_4 => ?_)
    · have hE := iq c_4 hE
      refine lv_aload_n hx hb dX2_pair_30 rfl (lv_at hl 1 rfl) ?_
      obtain ⟨r_5, h_5, hE⟩ := ob hE
      refine m_callv [] hC hP hS hl.1 (wX2_nextToken k r_1.2  r_5 h_5) (cwV 0 hts lkX2_165 rfl rfl rfl cdX2_nextToken ⟨Nat.le_of_ble_eq_true rfl, Nat.le_of_ble_eq_true rfl⟩) rfl rfl (lv_room (Nat.le_of_ble_eq_true rfl)) dX2_pair_31 (fun H locs hP hS => ?_)
      refine lv_aload_n hx hb dX2_pair_34 rfl (lv_at hl 1 rfl) ?_
      refine lv_iload_n hx hb dX2_pair_35 rfl (lv_at hl 2 rfl) ?_
      refine lv_iconst (v := 2) hx hb dX2_pair_36 (by decide) ?_
      refine lv_iadd hx hb dX2_pair_37 ?_
      refine lv_iconst (v := 0) hx hb dX2_pair_38 (by decide) ?_
      refine lv_iload hx hb dX2_pair_39 (lv_at hl 6 rfl) ?_
      obtain ⟨r_6, h_6, hE⟩ := ob hE
      refine m_calli [.int (x1 + (2 : Int32)), .int (0 : Int32), .int x6] hC hP hS hl.1 (wX2_figure k r_5 (x1 + (2 : Int32)) (0 : Int32) x6 r_6 h_6) (cwV 3 hts lkX2_215 rfl rfl rfl cdX2_figure ⟨Nat.le_of_ble_eq_true rfl, Nat.le_of_ble_eq_true rfl⟩) rfl rfl (lv_room (Nat.le_of_ble_eq_true rfl)) dX2_pair_41 (fun H locs hP hS => ?_)
      obtain rfl := Option.some.inj hE
      exact m_iret hC hP hS dX2_pair_44
    · have hE := ip c_4 hE
      refine lv_iconst (v := 1) hx hb dX2_pair_28 (by decide) ?_
      obtain rfl := Option.some.inj hE
      exact m_iret hC hP hS dX2_pair_29
  · have hE := iq c_2 hE
    refine lv_iload hx hb dX2_pair_16 (lv_at hl 0 rfl) ?_
    obtain rfl := Option.some.inj hE
    exact m_iret hC hP hS dX2_pair_18
def fX2_openAt_B7 (k : Nat)  (w : MS) (a : Int32) : Option (Int32 ⊕ Int32) := if a < 0 then (some (.inr a)) else (if ib a 160 then none else (if (40 : Int32) ≤ (w.2.2.1 15 a.toNatClampNeg) then (some (.inr a)) else (some (.inl (a + (-1 : Int32))))))
set_option maxHeartbeats 1000000 in
theorem wX2_openAt_B7 {p : Program} {l : Launch} {e : Env} {s : State} {m : MethodId} {args : Array Value} {below : List Frame} {meth : Method} {c : Code} {E : ME} {Q : State → Prop} (k : Nat)  (w : MS) (hC : mC E cX2_openAt 2 (some .int) p s m args meth c) (a : Int32) (y : Int32 ⊕ Int32) (hE : fX2_openAt_B7 k  w a = some y) (hc : ∀ a : Int32, y = .inl a → mW p l e rmX2_openAt s m args below meth c E 2 Q 7 [(0, .ref (E.2.2.2.1 0)), (1, .int a)] [] w) (hx1 : ∀ b : Int32, y = .inr b → mW p l e rmX2_openAt s m args below meth c E 2 Q 28 [(1, .int b)] [] w) : mW p l e rmX2_openAt s m args below meth c E 2 Q 7 [(0, .ref (E.2.2.2.1 0)), (1, .int a)] [] w := by
  intro H locs ls hP hS hl
  have hx := hC.1
  have hb := hC.2.1
  have hown := hC.2.2.2.2.2.1
  have hts := hC.2.2.2.2.2.2.1
  unfold fX2_openAt_B7 at hE
  refine lv_iload_n hx hb dX2_openAt_7 rfl (lv_at hl 1 rfl) ?_
  refine lv_if_lt (tgt := 28) hx hb dX2_openAt_8 (by decide) (fun c_1 => ?_) (fun c_1 => ?_)
  · have hE := ip c_1 hE
    exact hx1 _ (Option.some.inj hE).symm H locs ls hP hS (lv_sub hl [1] rfl)
  · have hE := iq c_1 hE
    refine lv_aload_n hx hb dX2_openAt_11 rfl (lv_at hl 0 rfl) ?_
    refine gM_29 hC hP dX2_openAt_12 ?_
    refine lv_iload_n hx hb dX2_openAt_15 rfl (lv_at hl 1 rfl) ?_
    obtain ⟨c_2, hE⟩ := og hE
    refine aM_15 hC hP c_2 dX2_openAt_16 ?_
    refine lv_bipush (v := 40) hx hb dX2_openAt_17 (by decide) ?_
    refine lv_icmp_ge (tgt := 28) hx hb dX2_openAt_19 (by decide) (fun c_3 => ?_) (fun c_3 => ?_)
    · have hE := ip c_3 hE
      exact hx1 _ (Option.some.inj hE).symm H locs ls hP hS (lv_sub hl [1] rfl)
    · have hE := iq c_3 hE
      refine lv_iinc (v := (a + (-1 : Int32))) (lv' := [(1, .int (a + (-1 : Int32))), (0, .ref (E.2.2.2.1 0))]) hx hb dX2_openAt_22 hl (k := 1) rfl rfl (Nat.le_of_ble_eq_true rfl) rfl (fun ls hl => ?_)
      refine lv_goto (tgt := 7) hx hb dX2_openAt_25 (by decide) ?_
      exact hc _ (Option.some.inj hE).symm H locs ls hP hS (lv_sub hl [1, 0] rfl)
def fX2_openAt (k : Nat) (z : MS)  : Option Int32 := (lpo (fX2_openAt_B7 k  z) k ((z.1 16) - (1 : Int32))).bind fun x_4 => some x_4
set_option maxHeartbeats 1000000 in
theorem wX2_openAt {l : Launch} {E : ME} (k : Nat) (z : MS)  (y : Int32) (hE : fX2_openAt k z  = some y) : mM l yX2_openAt (ws_ yX2_openAt cX2_openAt 2 (some .int)) rmX2_openAt E z [] (some (.int y)) z := by
  refine m_met (by decide) rfl (Nat.le_of_ble_eq_true rfl) (fun p e s m args below meth c hC => ?_)
  intro H locs ls hP hS hl
  have hx := hC.1
  have hb := hC.2.1
  have hown := hC.2.2.2.2.2.1
  have hts := hC.2.2.2.2.2.2.1
  have hl : lv_has ls 2 [(0, .ref (E.2.2.2.1 0))] := hl
  unfold fX2_openAt at hE
  refine lv_aload_n hx hb dX2_openAt_0 rfl (lv_at hl 0 rfl) ?_
  refine gM_146 hC hP dX2_openAt_1 ?_
  refine lv_iconst (v := 1) hx hb dX2_openAt_4 (by decide) ?_
  refine lv_isub hx hb dX2_openAt_5 ?_
  refine lv_istore_n (lv' := [(1, .int ((z.1 16) - (1 : Int32))), (0, .ref (E.2.2.2.1 0))]) hx hb dX2_openAt_6 rfl hl (Nat.le_of_ble_eq_true rfl) rfl (fun ls hl => ?_)
  obtain ⟨x_4, h_4, hE⟩ := ob hE
  refine lpo_walk (fun p_4 : Int32 => mW p l e rmX2_openAt s m args below meth c E 2 (mQ E below args s (some (.int y)) z) 7 [(0, .ref (E.2.2.2.1 0)), (1, .int p_4)] [] z) (fun q_4 : Int32 => mW p l e rmX2_openAt s m args below meth c E 2 (mQ E below args s (some (.int y)) z) 28 [(1, .int q_4)] [] z) (fun a_4 y_4 hB_4 hc_4 hx_4 => wX2_openAt_B7 k  z hC a_4 y_4 hB_4 hc_4 hx_4) _ _ x_4 h_4 ?_ H locs ls hP hS (lv_sub hl [1, 0] rfl)
  intro H locs ls hP hS hl
  refine lv_iload_n hx hb dX2_openAt_28 rfl (lv_at hl 0 rfl) ?_
  obtain rfl := Option.some.inj hE
  exact m_iret hC hP hS dX2_openAt_29
def fX2_openNow (k : Nat) (z : MS)  : Option Int32 := (fX2_openAt k z ).bind fun r_1 => if 0 ≤ r_1 then ((fX2_openAt k z ).bind fun r_3 => if ib r_3 160 then none else (some (z.2.2.1 15 r_3.toNatClampNeg))) else (some (-1 : Int32))
set_option maxHeartbeats 1000000 in
theorem wX2_openNow {l : Launch} {E : ME} (k : Nat) (z : MS)  (y : Int32) (hE : fX2_openNow k z  = some y) : mM l yX2_openNow (ws_ yX2_openNow cX2_openNow 1 (some .int)) rmX2_openNow E z [] (some (.int y)) z := by
  refine m_met (by decide) rfl (Nat.le_of_ble_eq_true rfl) (fun p e s m args below meth c hC => ?_)
  intro H locs ls hP hS hl
  have hx := hC.1
  have hb := hC.2.1
  have hown := hC.2.2.2.2.2.1
  have hts := hC.2.2.2.2.2.2.1
  have hl : lv_has ls 1 [(0, .ref (E.2.2.2.1 0))] := hl
  unfold fX2_openNow at hE
  refine lv_aload_n hx hb dX2_openNow_0 rfl (lv_at hl 0 rfl) ?_
  obtain ⟨r_1, h_1, hE⟩ := ob hE
  refine m_calli [] hC hP hS hl.1 (wX2_openAt k z  r_1 h_1) (cwV 0 hts lkX2_158 rfl rfl rfl cdX2_openAt ⟨Nat.le_of_ble_eq_true rfl, Nat.le_of_ble_eq_true rfl⟩) rfl rfl (lv_room (Nat.le_of_ble_eq_true rfl)) dX2_openNow_1 (fun H locs hP hS => ?_)
  refine lv_if_ge (tgt := 11) hx hb dX2_openNow_4 (by decide) (fun c_2 => ?_) (fun c_2 => ?_)
  · have hE := ip c_2 hE
    refine lv_aload_n hx hb dX2_openNow_11 rfl (lv_at hl 0 rfl) ?_
    refine gM_29 hC hP dX2_openNow_12 ?_
    refine lv_aload_n hx hb dX2_openNow_15 rfl (lv_at hl 0 rfl) ?_
    obtain ⟨r_3, h_3, hE⟩ := ob hE
    refine m_calli [] hC hP hS hl.1 (wX2_openAt k z  r_3 h_3) (cwV 0 hts lkX2_158 rfl rfl rfl cdX2_openAt ⟨Nat.le_of_ble_eq_true rfl, Nat.le_of_ble_eq_true rfl⟩) rfl rfl (lv_room (Nat.le_of_ble_eq_true rfl)) dX2_openNow_16 (fun H locs hP hS => ?_)
    obtain ⟨c_4, hE⟩ := og hE
    refine aM_15 hC hP c_4 dX2_openNow_19 ?_
    obtain rfl := Option.some.inj hE
    exact m_iret hC hP hS dX2_openNow_20
  · have hE := iq c_2 hE
    refine lv_iconst (v := -1) hx hb dX2_openNow_7 (by decide) ?_
    refine lv_goto (tgt := 20) hx hb dX2_openNow_8 (by decide) ?_
    obtain rfl := Option.some.inj hE
    exact m_iret hC hP hS dX2_openNow_20
def fX2_rank (x0 : Int32) : Option Int32 := if x0 < (40 : Int32) then (if x0 = (22 : Int32) then (some (1 : Int32)) else (if x0 = (21 : Int32) then (some (2 : Int32)) else (if x0 = (20 : Int32) then (some (3 : Int32)) else (if x0 < (10 : Int32) then (if x0 = (5 : Int32) then (some (7 : Int32)) else (if x0 = (2 : Int32) then (some (7 : Int32)) else (if x0 = (4 : Int32) then (some (7 : Int32)) else (if x0 < (8 : Int32) then (some (5 : Int32)) else (some (6 : Int32)))))) else (some (4 : Int32)))))) else (some (0 : Int32))
set_option maxHeartbeats 1000000 in
theorem wX2_rank {l : Launch} (x0 : Int32) (y : Int32) (hE : fX2_rank x0 = some y) : sM l yX2_rank (ws_ yX2_rank cX2_rank 1 (some .int)) rmX2_rank [.int x0] (some (.int y)) := by
  refine s_met (own := RX2) (by decide) rfl (Nat.le_of_ble_eq_true rfl) (fun p e s m args below meth c hC => ?_)
  intro ls hl
  have hx := hC.1
  have hb := hC.2.1
  have hown := hC.2.2.2.2.2.1
  have hts := hC.2.2.2.2.2.2
  have hl : lv_has ls 1 [(0, .int x0)] := hl
  unfold fX2_rank at hE
  refine lv_iload_n hx hb dX2_rank_0 rfl (lv_at hl 0 rfl) ?_
  refine lv_bipush (v := 40) hx hb dX2_rank_1 (by decide) ?_
  refine lv_icmp_lt (tgt := 10) hx hb dX2_rank_3 (by decide) (fun c_1 => ?_) (fun c_1 => ?_)
  · have hE := ip c_1 hE
    refine lv_iload_n hx hb dX2_rank_10 rfl (lv_at hl 0 rfl) ?_
    refine lv_bipush (v := 22) hx hb dX2_rank_11 (by decide) ?_
    refine lv_icmp_ne (tgt := 20) hx hb dX2_rank_13 (by decide) (fun c_2 => ?_) (fun c_2 => ?_)
    · have hE := iq c_2 hE
      refine lv_iload_n hx hb dX2_rank_20 rfl (lv_at hl 0 rfl) ?_
      refine lv_bipush (v := 21) hx hb dX2_rank_21 (by decide) ?_
      refine lv_icmp_ne (tgt := 30) hx hb dX2_rank_23 (by decide) (fun c_3 => ?_) (fun c_3 => ?_)
      · have hE := iq c_3 hE
        refine lv_iload_n hx hb dX2_rank_30 rfl (lv_at hl 0 rfl) ?_
        refine lv_bipush (v := 20) hx hb dX2_rank_31 (by decide) ?_
        refine lv_icmp_ne (tgt := 40) hx hb dX2_rank_33 (by decide) (fun c_4 => ?_) (fun c_4 => ?_)
        · have hE := iq c_4 hE
          refine lv_iload_n hx hb dX2_rank_40 rfl (lv_at hl 0 rfl) ?_
          refine lv_bipush (v := 10) hx hb dX2_rank_41 (by decide) ?_
          refine lv_icmp_lt (tgt := 50) hx hb dX2_rank_43 (by decide) (fun c_5 => ?_) (fun c_5 => ?_)
          · have hE := ip c_5 hE
            refine lv_iload_n hx hb dX2_rank_50 rfl (lv_at hl 0 rfl) ?_
            refine lv_iconst (v := 5) hx hb dX2_rank_51 (by decide) ?_
            refine lv_icmp_eq (tgt := 65) hx hb dX2_rank_52 (by decide) (fun c_6 => ?_) (fun c_6 => ?_)
            · have hE := ip c_6 hE
              refine lv_bipush (v := 7) hx hb dX2_rank_65 (by decide) ?_
              refine lv_goto (tgt := 82) hx hb dX2_rank_67 (by decide) ?_
              obtain rfl := Option.some.inj hE
              exact s_iret hC dX2_rank_82
            · have hE := iq c_6 hE
              refine lv_iload_n hx hb dX2_rank_55 rfl (lv_at hl 0 rfl) ?_
              refine lv_iconst (v := 2) hx hb dX2_rank_56 (by decide) ?_
              refine lv_icmp_eq (tgt := 65) hx hb dX2_rank_57 (by decide) (fun c_7 => ?_) (fun c_7 => ?_)
              · have hE := ip c_7 hE
                refine lv_bipush (v := 7) hx hb dX2_rank_65 (by decide) ?_
                refine lv_goto (tgt := 82) hx hb dX2_rank_67 (by decide) ?_
                obtain rfl := Option.some.inj hE
                exact s_iret hC dX2_rank_82
              · have hE := iq c_7 hE
                refine lv_iload_n hx hb dX2_rank_60 rfl (lv_at hl 0 rfl) ?_
                refine lv_iconst (v := 4) hx hb dX2_rank_61 (by decide) ?_
                refine lv_icmp_ne (tgt := 70) hx hb dX2_rank_62 (by decide) (fun c_8 => ?_) (fun c_8 => ?_)
                · have hE := iq c_8 hE
                  refine lv_iload_n hx hb dX2_rank_70 rfl (lv_at hl 0 rfl) ?_
                  refine lv_bipush (v := 8) hx hb dX2_rank_71 (by decide) ?_
                  refine lv_icmp_lt (tgt := 81) hx hb dX2_rank_73 (by decide) (fun c_9 => ?_) (fun c_9 => ?_)
                  · have hE := ip c_9 hE
                    refine lv_iconst (v := 5) hx hb dX2_rank_81 (by decide) ?_
                    obtain rfl := Option.some.inj hE
                    exact s_iret hC dX2_rank_82
                  · have hE := iq c_9 hE
                    refine lv_bipush (v := 6) hx hb dX2_rank_76 (by decide) ?_
                    refine lv_goto (tgt := 82) hx hb dX2_rank_78 (by decide) ?_
                    obtain rfl := Option.some.inj hE
                    exact s_iret hC dX2_rank_82
                · have hE := ip c_8 hE
                  refine lv_bipush (v := 7) hx hb dX2_rank_65 (by decide) ?_
                  refine lv_goto (tgt := 82) hx hb dX2_rank_67 (by decide) ?_
                  obtain rfl := Option.some.inj hE
                  exact s_iret hC dX2_rank_82
          · have hE := iq c_5 hE
            refine lv_iconst (v := 4) hx hb dX2_rank_46 (by decide) ?_
            refine lv_goto (tgt := 82) hx hb dX2_rank_47 (by decide) ?_
            obtain rfl := Option.some.inj hE
            exact s_iret hC dX2_rank_82
        · have hE := ip c_4 hE
          refine lv_iconst (v := 3) hx hb dX2_rank_36 (by decide) ?_
          refine lv_goto (tgt := 82) hx hb dX2_rank_37 (by decide) ?_
          obtain rfl := Option.some.inj hE
          exact s_iret hC dX2_rank_82
      · have hE := ip c_3 hE
        refine lv_iconst (v := 2) hx hb dX2_rank_26 (by decide) ?_
        refine lv_goto (tgt := 82) hx hb dX2_rank_27 (by decide) ?_
        obtain rfl := Option.some.inj hE
        exact s_iret hC dX2_rank_82
    · have hE := ip c_2 hE
      refine lv_iconst (v := 1) hx hb dX2_rank_16 (by decide) ?_
      refine lv_goto (tgt := 82) hx hb dX2_rank_17 (by decide) ?_
      obtain rfl := Option.some.inj hE
      exact s_iret hC dX2_rank_82
  · have hE := iq c_1 hE
    refine lv_iconst (v := 0) hx hb dX2_rank_6 (by decide) ?_
    refine lv_goto (tgt := 82) hx hb dX2_rank_7 (by decide) ?_
    obtain rfl := Option.some.inj hE
    exact s_iret hC dX2_rank_82
def fX2_isCompared_B7 (k : Nat)  (w : MS) (a : Int32) : Option (Int32 ⊕ Int32) := if a < 0 then (some (.inr a)) else (if ib a 160 then none else ((fX2_rank (w.2.2.1 15 a.toNatClampNeg)).bind fun r_3 => if r_3 ≤ (4 : Int32) then (some (.inr a)) else (some (.inl (a + (-1 : Int32))))))
set_option maxHeartbeats 1000000 in
theorem wX2_isCompared_B7 {p : Program} {l : Launch} {e : Env} {s : State} {m : MethodId} {args : Array Value} {below : List Frame} {meth : Method} {c : Code} {E : ME} {Q : State → Prop} (k : Nat)  (w : MS) (hC : mC E cX2_isCompared 2 (some .boolean) p s m args meth c) (a : Int32) (y : Int32 ⊕ Int32) (hE : fX2_isCompared_B7 k  w a = some y) (hc : ∀ a : Int32, y = .inl a → mW p l e rmX2_isCompared s m args below meth c E 2 Q 7 [(0, .ref (E.2.2.2.1 0)), (1, .int a)] [] w) (hx1 : ∀ b : Int32, y = .inr b → mW p l e rmX2_isCompared s m args below meth c E 2 Q 30 [(0, .ref (E.2.2.2.1 0)), (1, .int b)] [] w) : mW p l e rmX2_isCompared s m args below meth c E 2 Q 7 [(0, .ref (E.2.2.2.1 0)), (1, .int a)] [] w := by
  intro H locs ls hP hS hl
  have hx := hC.1
  have hb := hC.2.1
  have hown := hC.2.2.2.2.2.1
  have hts := hC.2.2.2.2.2.2.1
  unfold fX2_isCompared_B7 at hE
  refine lv_iload_n hx hb dX2_isCompared_7 rfl (lv_at hl 1 rfl) ?_
  refine lv_if_lt (tgt := 30) hx hb dX2_isCompared_8 (by decide) (fun c_1 => ?_) (fun c_1 => ?_)
  · have hE := ip c_1 hE
    exact hx1 _ (Option.some.inj hE).symm H locs ls hP hS hl
  · have hE := iq c_1 hE
    refine lv_aload_n hx hb dX2_isCompared_11 rfl (lv_at hl 0 rfl) ?_
    refine gM_29 hC hP dX2_isCompared_12 ?_
    refine lv_iload_n hx hb dX2_isCompared_15 rfl (lv_at hl 1 rfl) ?_
    obtain ⟨c_2, hE⟩ := og hE
    refine aM_15 hC hP c_2 dX2_isCompared_16 ?_
    obtain ⟨r_3, h_3, hE⟩ := ob hE
    refine s_calli [.int (w.2.2.1 15 a.toNatClampNeg)] hC.sC hl.1 (wX2_rank (w.2.2.1 15 a.toNatClampNeg) r_3 h_3) (va_cwS 1 hts lkX2_149 rfl rfl rfl cdX2_rank ⟨Nat.le_of_ble_eq_true rfl, Nat.le_of_ble_eq_true rfl⟩) rfl rfl (lv_room (Nat.le_of_ble_eq_true rfl)) ⟨Nat.zero_le _, Nat.zero_le _⟩ dX2_isCompared_17 ?_
    refine lv_iconst (v := 4) hx hb dX2_isCompared_20 (by decide) ?_
    refine lv_icmp_le (tgt := 30) hx hb dX2_isCompared_21 (by decide) (fun c_4 => ?_) (fun c_4 => ?_)
    · have hE := ip c_4 hE
      exact hx1 _ (Option.some.inj hE).symm H locs ls hP hS hl
    · have hE := iq c_4 hE
      refine lv_iinc (v := (a + (-1 : Int32))) (lv' := [(1, .int (a + (-1 : Int32))), (0, .ref (E.2.2.2.1 0))]) hx hb dX2_isCompared_24 hl (k := 1) rfl rfl (Nat.le_of_ble_eq_true rfl) rfl (fun ls hl => ?_)
      refine lv_goto (tgt := 7) hx hb dX2_isCompared_27 (by decide) ?_
      exact hc _ (Option.some.inj hE).symm H locs ls hP hS (lv_sub hl [1, 0] rfl)
def fX2_isCompared_J30 (k : Nat) (z : MS) (x1 : Int32) : Option (Int32) := if x1 < 0 then (some (0 : Int32)) else (if ib x1 160 then none else ((fX2_rank (z.2.2.1 15 x1.toNatClampNeg)).bind fun r_8 => if r_8 = (4 : Int32) then (some (1 : Int32)) else (some (0 : Int32))))
set_option maxHeartbeats 1000000 in
theorem wX2_isCompared_J30 {p : Program} {l : Launch} {e : Env} {s : State} {m : MethodId} {args : Array Value} {below : List Frame} {meth : Method} {c : Code} {E : ME} (k : Nat) (z : MS) (x1 : Int32) (hC : mC E cX2_isCompared 2 (some .boolean) p s m args meth c) (y : Int32) (hE : fX2_isCompared_J30 k z x1 = some y) : mW p l e rmX2_isCompared s m args below meth c E 2 (mQ E below args s (some (.int y)) z) 30 [(0, .ref (E.2.2.2.1 0)), (1, .int x1)] [] z := by
  intro H locs ls hP hS hl
  have hx := hC.1
  have hb := hC.2.1
  have hown := hC.2.2.2.2.2.1
  have hts := hC.2.2.2.2.2.2.1
  unfold fX2_isCompared_J30 at hE
  refine lv_iload_n hx hb dX2_isCompared_30 rfl (lv_at hl 1 rfl) ?_
  refine lv_if_lt (tgt := 51) hx hb dX2_isCompared_31 (by decide) (fun c_6 => ?_) (fun c_6 => ?_)
  · have hE := ip c_6 hE
    refine lv_iconst (v := 0) hx hb dX2_isCompared_51 (by decide) ?_
    obtain rfl := Option.some.inj hE
    exact m_zret (v := (0 : Int32)) hC hP hS (by decide) dX2_isCompared_52
  · have hE := iq c_6 hE
    refine lv_aload_n hx hb dX2_isCompared_34 rfl (lv_at hl 0 rfl) ?_
    refine gM_29 hC hP dX2_isCompared_35 ?_
    refine lv_iload_n hx hb dX2_isCompared_38 rfl (lv_at hl 1 rfl) ?_
    obtain ⟨c_7, hE⟩ := og hE
    refine aM_15 hC hP c_7 dX2_isCompared_39 ?_
    obtain ⟨r_8, h_8, hE⟩ := ob hE
    refine s_calli [.int (z.2.2.1 15 x1.toNatClampNeg)] hC.sC hl.1 (wX2_rank (z.2.2.1 15 x1.toNatClampNeg) r_8 h_8) (va_cwS 1 hts lkX2_149 rfl rfl rfl cdX2_rank ⟨Nat.le_of_ble_eq_true rfl, Nat.le_of_ble_eq_true rfl⟩) rfl rfl (lv_room (Nat.le_of_ble_eq_true rfl)) ⟨Nat.zero_le _, Nat.zero_le _⟩ dX2_isCompared_40 ?_
    refine lv_iconst (v := 4) hx hb dX2_isCompared_43 (by decide) ?_
    refine lv_icmp_ne (tgt := 51) hx hb dX2_isCompared_44 (by decide) (fun c_9 => ?_) (fun c_9 => ?_)
    · have hE := iq c_9 hE
      refine lv_iconst (v := 0) hx hb dX2_isCompared_51 (by decide) ?_
      obtain rfl := Option.some.inj hE
      exact m_zret (v := (0 : Int32)) hC hP hS (by decide) dX2_isCompared_52
    · have hE := ip c_9 hE
      refine lv_iconst (v := 1) hx hb dX2_isCompared_47 (by decide) ?_
      refine lv_goto (tgt := 52) hx hb dX2_isCompared_48 (by decide) ?_
      obtain rfl := Option.some.inj hE
      exact m_zret (v := (1 : Int32)) hC hP hS (by decide) dX2_isCompared_52
def fX2_isCompared (k : Nat) (z : MS)  : Option Int32 := (lpo (fX2_isCompared_B7 k  z) k ((z.1 16) - (1 : Int32))).bind fun x_5 => (fX2_isCompared_J30 k z x_5)
set_option maxHeartbeats 1000000 in
theorem wX2_isCompared {l : Launch} {E : ME} (k : Nat) (z : MS)  (y : Int32) (hE : fX2_isCompared k z  = some y) : mM l yX2_isCompared (ws_ yX2_isCompared cX2_isCompared 2 (some .boolean)) rmX2_isCompared E z [] (some (.int y)) z := by
  refine m_met (by decide) rfl (Nat.le_of_ble_eq_true rfl) (fun p e s m args below meth c hC => ?_)
  intro H locs ls hP hS hl
  have hx := hC.1
  have hb := hC.2.1
  have hown := hC.2.2.2.2.2.1
  have hts := hC.2.2.2.2.2.2.1
  have hl : lv_has ls 2 [(0, .ref (E.2.2.2.1 0))] := hl
  unfold fX2_isCompared at hE
  refine lv_aload_n hx hb dX2_isCompared_0 rfl (lv_at hl 0 rfl) ?_
  refine gM_146 hC hP dX2_isCompared_1 ?_
  refine lv_iconst (v := 1) hx hb dX2_isCompared_4 (by decide) ?_
  refine lv_isub hx hb dX2_isCompared_5 ?_
  refine lv_istore_n (lv' := [(1, .int ((z.1 16) - (1 : Int32))), (0, .ref (E.2.2.2.1 0))]) hx hb dX2_isCompared_6 rfl hl (Nat.le_of_ble_eq_true rfl) rfl (fun ls hl => ?_)
  obtain ⟨x_5, h_5, hE⟩ := ob hE
  refine lpo_walk (fun p_5 : Int32 => mW p l e rmX2_isCompared s m args below meth c E 2 (mQ E below args s (some (.int y)) z) 7 [(0, .ref (E.2.2.2.1 0)), (1, .int p_5)] [] z) (fun q_5 : Int32 => mW p l e rmX2_isCompared s m args below meth c E 2 (mQ E below args s (some (.int y)) z) 30 [(0, .ref (E.2.2.2.1 0)), (1, .int q_5)] [] z) (fun a_5 y_5 hB_5 hc_5 hx_5 => wX2_isCompared_B7 k  z hC a_5 y_5 hB_5 hc_5 hx_5) _ _ x_5 h_5 ?_ H locs ls hP hS (lv_sub hl [1, 0] rfl)
  intro H locs ls hP hS hl
  exact wX2_isCompared_J30 k z x_5 hC y hE H locs ls hP hS hl
def fX2_compareOf (z : MS)  : Option Int32 := if (z.1 9) = (60 : Int32) then (some (10 : Int32)) else (if (z.1 9) = (4 : Int32) then (some (11 : Int32)) else (if (z.1 9) = (62 : Int32) then (some (12 : Int32)) else (if (z.1 9) = (5 : Int32) then (some (13 : Int32)) else (if (z.1 9) = (61 : Int32) then (some (14 : Int32)) else (if (z.1 9) = (35 : Int32) then (some (15 : Int32)) else (some (-1 : Int32)))))))
set_option maxHeartbeats 1000000 in
theorem wX2_compareOf {l : Launch} {E : ME} (z : MS)  (y : Int32) (hE : fX2_compareOf z  = some y) : mM l yX2_compareOf (ws_ yX2_compareOf cX2_compareOf 1 (some .int)) rmX2_compareOf E z [] (some (.int y)) z := by
  refine m_met (by decide) rfl (Nat.le_of_ble_eq_true rfl) (fun p e s m args below meth c hC => ?_)
  intro H locs ls hP hS hl
  have hx := hC.1
  have hb := hC.2.1
  have hown := hC.2.2.2.2.2.1
  have hts := hC.2.2.2.2.2.2.1
  have hl : lv_has ls 1 [(0, .ref (E.2.2.2.1 0))] := hl
  unfold fX2_compareOf at hE
  refine lv_aload_n hx hb dX2_compareOf_0 rfl (lv_at hl 0 rfl) ?_
  refine gM_98 hC hP dX2_compareOf_1 ?_
  refine lv_bipush (v := 60) hx hb dX2_compareOf_4 (by decide) ?_
  refine lv_icmp_ne (tgt := 14) hx hb dX2_compareOf_6 (by decide) (fun c_1 => ?_) (fun c_1 => ?_)
  · have hE := iq c_1 hE
    refine lv_aload_n hx hb dX2_compareOf_14 rfl (lv_at hl 0 rfl) ?_
    refine gM_98 hC hP dX2_compareOf_15 ?_
    refine lv_iconst (v := 4) hx hb dX2_compareOf_18 (by decide) ?_
    refine lv_icmp_ne (tgt := 27) hx hb dX2_compareOf_19 (by decide) (fun c_2 => ?_) (fun c_2 => ?_)
    · have hE := iq c_2 hE
      refine lv_aload_n hx hb dX2_compareOf_27 rfl (lv_at hl 0 rfl) ?_
      refine gM_98 hC hP dX2_compareOf_28 ?_
      refine lv_bipush (v := 62) hx hb dX2_compareOf_31 (by decide) ?_
      refine lv_icmp_ne (tgt := 41) hx hb dX2_compareOf_33 (by decide) (fun c_3 => ?_) (fun c_3 => ?_)
      · have hE := iq c_3 hE
        refine lv_aload_n hx hb dX2_compareOf_41 rfl (lv_at hl 0 rfl) ?_
        refine gM_98 hC hP dX2_compareOf_42 ?_
        refine lv_iconst (v := 5) hx hb dX2_compareOf_45 (by decide) ?_
        refine lv_icmp_ne (tgt := 54) hx hb dX2_compareOf_46 (by decide) (fun c_4 => ?_) (fun c_4 => ?_)
        · have hE := iq c_4 hE
          refine lv_aload_n hx hb dX2_compareOf_54 rfl (lv_at hl 0 rfl) ?_
          refine gM_98 hC hP dX2_compareOf_55 ?_
          refine lv_bipush (v := 61) hx hb dX2_compareOf_58 (by decide) ?_
          refine lv_icmp_ne (tgt := 68) hx hb dX2_compareOf_60 (by decide) (fun c_5 => ?_) (fun c_5 => ?_)
          · have hE := iq c_5 hE
            refine lv_aload_n hx hb dX2_compareOf_68 rfl (lv_at hl 0 rfl) ?_
            refine gM_98 hC hP dX2_compareOf_69 ?_
            refine lv_bipush (v := 35) hx hb dX2_compareOf_72 (by decide) ?_
            refine lv_icmp_ne (tgt := 82) hx hb dX2_compareOf_74 (by decide) (fun c_6 => ?_) (fun c_6 => ?_)
            · have hE := iq c_6 hE
              refine lv_iconst (v := -1) hx hb dX2_compareOf_82 (by decide) ?_
              obtain rfl := Option.some.inj hE
              exact m_iret hC hP hS dX2_compareOf_83
            · have hE := ip c_6 hE
              refine lv_bipush (v := 15) hx hb dX2_compareOf_77 (by decide) ?_
              refine lv_goto (tgt := 83) hx hb dX2_compareOf_79 (by decide) ?_
              obtain rfl := Option.some.inj hE
              exact m_iret hC hP hS dX2_compareOf_83
          · have hE := ip c_5 hE
            refine lv_bipush (v := 14) hx hb dX2_compareOf_63 (by decide) ?_
            refine lv_goto (tgt := 83) hx hb dX2_compareOf_65 (by decide) ?_
            obtain rfl := Option.some.inj hE
            exact m_iret hC hP hS dX2_compareOf_83
        · have hE := ip c_4 hE
          refine lv_bipush (v := 13) hx hb dX2_compareOf_49 (by decide) ?_
          refine lv_goto (tgt := 83) hx hb dX2_compareOf_51 (by decide) ?_
          obtain rfl := Option.some.inj hE
          exact m_iret hC hP hS dX2_compareOf_83
      · have hE := ip c_3 hE
        refine lv_bipush (v := 12) hx hb dX2_compareOf_36 (by decide) ?_
        refine lv_goto (tgt := 83) hx hb dX2_compareOf_38 (by decide) ?_
        obtain rfl := Option.some.inj hE
        exact m_iret hC hP hS dX2_compareOf_83
    · have hE := ip c_2 hE
      refine lv_bipush (v := 11) hx hb dX2_compareOf_22 (by decide) ?_
      refine lv_goto (tgt := 83) hx hb dX2_compareOf_24 (by decide) ?_
      obtain rfl := Option.some.inj hE
      exact m_iret hC hP hS dX2_compareOf_83
  · have hE := ip c_1 hE
    refine lv_bipush (v := 10) hx hb dX2_compareOf_9 (by decide) ?_
    refine lv_goto (tgt := 83) hx hb dX2_compareOf_11 (by decide) ?_
    obtain rfl := Option.some.inj hE
    exact m_iret hC hP hS dX2_compareOf_83
def fX2_betweenOf (k : Nat) (z : MS)  : Option Int32 := if (z.1 9) = (43 : Int32) then (some (6 : Int32)) else (if (z.1 9) = (45 : Int32) then (some (7 : Int32)) else (if (z.1 9) = (42 : Int32) then (some (8 : Int32)) else (if (z.1 9) = (47 : Int32) then (some (9 : Int32)) else ((fX2_openNow k z ).bind fun r_5 => if r_5 = (42 : Int32) then ((fX2_isCompared k z ).bind fun r_7 => if r_7 = 0 then ((fX2_compareOf z ).bind fun r_15 => some r_15) else ((fX2_w3 (97 : Int32) (110 : Int32) (100 : Int32)).bind fun r_9 => (fX2_isWord z r_9).bind fun r_10 => if r_10 = 0 then ((fX2_w2 (111 : Int32) (114 : Int32)).bind fun r_12 => (fX2_isWord z r_12).bind fun r_13 => if r_13 = 0 then (some (-1 : Int32)) else (some (22 : Int32))) else (some (21 : Int32)))) else (some (-1 : Int32))))))
set_option maxHeartbeats 1000000 in
theorem wX2_betweenOf {l : Launch} {E : ME} (k : Nat) (z : MS)  (y : Int32) (hE : fX2_betweenOf k z  = some y) : mM l yX2_betweenOf (ws_ yX2_betweenOf cX2_betweenOf 1 (some .int)) rmX2_betweenOf E z [] (some (.int y)) z := by
  refine m_met (by decide) rfl (Nat.le_of_ble_eq_true rfl) (fun p e s m args below meth c hC => ?_)
  intro H locs ls hP hS hl
  have hx := hC.1
  have hb := hC.2.1
  have hown := hC.2.2.2.2.2.1
  have hts := hC.2.2.2.2.2.2.1
  have hl : lv_has ls 1 [(0, .ref (E.2.2.2.1 0))] := hl
  unfold fX2_betweenOf at hE
  refine lv_aload_n hx hb dX2_betweenOf_0 rfl (lv_at hl 0 rfl) ?_
  refine gM_98 hC hP dX2_betweenOf_1 ?_
  refine lv_bipush (v := 43) hx hb dX2_betweenOf_4 (by decide) ?_
  refine lv_icmp_ne (tgt := 12) hx hb dX2_betweenOf_6 (by decide) (fun c_1 => ?_) (fun c_1 => ?_)
  · have hE := iq c_1 hE
    refine lv_aload_n hx hb dX2_betweenOf_12 rfl (lv_at hl 0 rfl) ?_
    refine gM_98 hC hP dX2_betweenOf_13 ?_
    refine lv_bipush (v := 45) hx hb dX2_betweenOf_16 (by decide) ?_
    refine lv_icmp_ne (tgt := 24) hx hb dX2_betweenOf_18 (by decide) (fun c_2 => ?_) (fun c_2 => ?_)
    · have hE := iq c_2 hE
      refine lv_aload_n hx hb dX2_betweenOf_24 rfl (lv_at hl 0 rfl) ?_
      refine gM_98 hC hP dX2_betweenOf_25 ?_
      refine lv_bipush (v := 42) hx hb dX2_betweenOf_28 (by decide) ?_
      refine lv_icmp_ne (tgt := 36) hx hb dX2_betweenOf_30 (by decide) (fun c_3 => ?_) (fun c_3 => ?_)
      · have hE := iq c_3 hE
        refine lv_aload_n hx hb dX2_betweenOf_36 rfl (lv_at hl 0 rfl) ?_
        refine gM_98 hC hP dX2_betweenOf_37 ?_
        refine lv_bipush (v := 47) hx hb dX2_betweenOf_40 (by decide) ?_
        refine lv_icmp_ne (tgt := 48) hx hb dX2_betweenOf_42 (by decide) (fun c_4 => ?_) (fun c_4 => ?_)
        · have hE := iq c_4 hE
          refine lv_aload_n hx hb dX2_betweenOf_48 rfl (lv_at hl 0 rfl) ?_
          obtain ⟨r_5, h_5, hE⟩ := ob hE
          refine m_calli [] hC hP hS hl.1 (wX2_openNow k z  r_5 h_5) (cwV 0 hts lkX2_162 rfl rfl rfl cdX2_openNow ⟨Nat.le_of_ble_eq_true rfl, Nat.le_of_ble_eq_true rfl⟩) rfl rfl (lv_room (Nat.le_of_ble_eq_true rfl)) dX2_betweenOf_49 (fun H locs hP hS => ?_)
          refine lv_bipush (v := 42) hx hb dX2_betweenOf_52 (by decide) ?_
          refine lv_icmp_eq (tgt := 59) hx hb dX2_betweenOf_54 (by decide) (fun c_6 => ?_) (fun c_6 => ?_)
          · have hE := ip c_6 hE
            refine lv_aload_n hx hb dX2_betweenOf_59 rfl (lv_at hl 0 rfl) ?_
            obtain ⟨r_7, h_7, hE⟩ := ob hE
            refine m_calli [] hC hP hS hl.1 (wX2_isCompared k z  r_7 h_7) (cwV 0 hts lkX2_194 rfl rfl rfl cdX2_isCompared ⟨Nat.le_of_ble_eq_true rfl, Nat.le_of_ble_eq_true rfl⟩) rfl rfl (lv_room (Nat.le_of_ble_eq_true rfl)) dX2_betweenOf_60 (fun H locs hP hS => ?_)
            refine lv_if_ne (tgt := 71) hx hb dX2_betweenOf_63 (by decide) (fun c_8 => ?_) (fun c_8 => ?_)
            · have hE := iq c_8 hE
              refine lv_aload_n hx hb dX2_betweenOf_71 rfl (lv_at hl 0 rfl) ?_
              refine lv_bipush (v := 97) hx hb dX2_betweenOf_72 (by decide) ?_
              refine lv_bipush (v := 110) hx hb dX2_betweenOf_74 (by decide) ?_
              refine lv_bipush (v := 100) hx hb dX2_betweenOf_76 (by decide) ?_
              obtain ⟨r_9, h_9, hE⟩ := ob hE
              refine s_calll [.int (97 : Int32), .int (110 : Int32), .int (100 : Int32)] hC.sC hl.1 (wX2_w3 (97 : Int32) (110 : Int32) (100 : Int32) r_9 h_9) (va_cwS 3 hts lkX2_124 rfl rfl rfl cdX2_w3 ⟨Nat.le_of_ble_eq_true rfl, Nat.le_of_ble_eq_true rfl⟩) rfl rfl (lv_room (Nat.le_of_ble_eq_true rfl)) ⟨Nat.zero_le _, Nat.zero_le _⟩ dX2_betweenOf_78 ?_
              obtain ⟨r_10, h_10, hE⟩ := ob hE
              refine m_calli [.long r_9] hC hP hS hl.1 (wX2_isWord z r_9 r_10 h_10) (cwV 1 hts lkX2_180 rfl rfl rfl cdX2_isWord ⟨Nat.le_of_ble_eq_true rfl, Nat.le_of_ble_eq_true rfl⟩) rfl rfl (lv_room (Nat.le_of_ble_eq_true rfl)) dX2_betweenOf_81 (fun H locs hP hS => ?_)
              refine lv_if_eq (tgt := 92) hx hb dX2_betweenOf_84 (by decide) (fun c_11 => ?_) (fun c_11 => ?_)
              · have hE := ip c_11 hE
                refine lv_aload_n hx hb dX2_betweenOf_92 rfl (lv_at hl 0 rfl) ?_
                refine lv_bipush (v := 111) hx hb dX2_betweenOf_93 (by decide) ?_
                refine lv_bipush (v := 114) hx hb dX2_betweenOf_95 (by decide) ?_
                obtain ⟨r_12, h_12, hE⟩ := ob hE
                refine s_calll [.int (111 : Int32), .int (114 : Int32)] hC.sC hl.1 (wX2_w2 (111 : Int32) (114 : Int32) r_12 h_12) (va_cwS 2 hts lkX2_120 rfl rfl rfl cdX2_w2 ⟨Nat.le_of_ble_eq_true rfl, Nat.le_of_ble_eq_true rfl⟩) rfl rfl (lv_room (Nat.le_of_ble_eq_true rfl)) ⟨Nat.zero_le _, Nat.zero_le _⟩ dX2_betweenOf_97 ?_
                obtain ⟨r_13, h_13, hE⟩ := ob hE
                refine m_calli [.long r_12] hC hP hS hl.1 (wX2_isWord z r_12 r_13 h_13) (cwV 1 hts lkX2_180 rfl rfl rfl cdX2_isWord ⟨Nat.le_of_ble_eq_true rfl, Nat.le_of_ble_eq_true rfl⟩) rfl rfl (lv_room (Nat.le_of_ble_eq_true rfl)) dX2_betweenOf_100 (fun H locs hP hS => ?_)
                refine lv_if_eq (tgt := 111) hx hb dX2_betweenOf_103 (by decide) (fun c_14 => ?_) (fun c_14 => ?_)
                · have hE := ip c_14 hE
                  refine lv_iconst (v := -1) hx hb dX2_betweenOf_111 (by decide) ?_
                  obtain rfl := Option.some.inj hE
                  exact m_iret hC hP hS dX2_betweenOf_112
                · have hE := iq c_14 hE
                  refine lv_bipush (v := 22) hx hb dX2_betweenOf_106 (by decide) ?_
                  refine lv_goto (tgt := 112) hx hb dX2_betweenOf_108 (by decide) ?_
                  obtain rfl := Option.some.inj hE
                  exact m_iret hC hP hS dX2_betweenOf_112
              · have hE := iq c_11 hE
                refine lv_bipush (v := 21) hx hb dX2_betweenOf_87 (by decide) ?_
                refine lv_goto (tgt := 112) hx hb dX2_betweenOf_89 (by decide) ?_
                obtain rfl := Option.some.inj hE
                exact m_iret hC hP hS dX2_betweenOf_112
            · have hE := ip c_8 hE
              refine lv_aload_n hx hb dX2_betweenOf_66 rfl (lv_at hl 0 rfl) ?_
              obtain ⟨r_15, h_15, hE⟩ := ob hE
              refine m_calli [] hC hP hS hl.1 (wX2_compareOf z  r_15 h_15) (cwV 0 hts lkX2_197 rfl rfl rfl cdX2_compareOf ⟨Nat.le_of_ble_eq_true rfl, Nat.le_of_ble_eq_true rfl⟩) rfl rfl (lv_room (Nat.le_of_ble_eq_true rfl)) dX2_betweenOf_67 (fun H locs hP hS => ?_)
              obtain rfl := Option.some.inj hE
              exact m_iret hC hP hS dX2_betweenOf_70
          · have hE := iq c_6 hE
            refine lv_iconst (v := -1) hx hb dX2_betweenOf_57 (by decide) ?_
            obtain rfl := Option.some.inj hE
            exact m_iret hC hP hS dX2_betweenOf_58
        · have hE := ip c_4 hE
          refine lv_bipush (v := 9) hx hb dX2_betweenOf_45 (by decide) ?_
          obtain rfl := Option.some.inj hE
          exact m_iret hC hP hS dX2_betweenOf_47
      · have hE := ip c_3 hE
        refine lv_bipush (v := 8) hx hb dX2_betweenOf_33 (by decide) ?_
        obtain rfl := Option.some.inj hE
        exact m_iret hC hP hS dX2_betweenOf_35
    · have hE := ip c_2 hE
      refine lv_bipush (v := 7) hx hb dX2_betweenOf_21 (by decide) ?_
      obtain rfl := Option.some.inj hE
      exact m_iret hC hP hS dX2_betweenOf_23
  · have hE := ip c_1 hE
    refine lv_bipush (v := 6) hx hb dX2_betweenOf_9 (by decide) ?_
    obtain rfl := Option.some.inj hE
    exact m_iret hC hP hS dX2_betweenOf_11
def fX2_emit (z : MS) (x1 : Int32) (x2 : Int32) : Option MS := if ib (((z.1 12) + (73 : Int32)) + ((2 : Int32) * (z.1 13))) 2724 then none else (nm (mA z 2 (upd (z.2.2.1 2) (((z.1 12) + (73 : Int32)) + ((2 : Int32) * (z.1 13))).toNatClampNeg x1)) fun z_1 => if ib ((((z_1.1 12) + (73 : Int32)) + ((2 : Int32) * (z_1.1 13))) + (1 : Int32)) 2724 then none else (nm (mA z_1 2 (upd (z_1.2.2.1 2) ((((z_1.1 12) + (73 : Int32)) + ((2 : Int32) * (z_1.1 13))) + (1 : Int32)).toNatClampNeg x2)) fun z_2 => nm (mI z_2 13 ((z_2.1 13) + (1 : Int32))) fun z_3 => some z_3))
set_option maxHeartbeats 1000000 in
theorem wX2_emit {l : Launch} {E : ME} (z : MS) (x1 : Int32) (x2 : Int32) (y : MS) (hE : fX2_emit z x1 x2 = some y) : mM l yX2_emit (ws_ yX2_emit cX2_emit 3 none) rmX2_emit E z [.int x1, .int x2] none y := by
  refine m_met (by decide) rfl (Nat.le_of_ble_eq_true rfl) (fun p e s m args below meth c hC => ?_)
  intro H locs ls hP hS hl
  have hx := hC.1
  have hb := hC.2.1
  have hown := hC.2.2.2.2.2.1
  have hts := hC.2.2.2.2.2.2.1
  have hl : lv_has ls 3 [(0, .ref (E.2.2.2.1 0)), (1, .int x1), (2, .int x2)] := hl
  unfold fX2_emit at hE
  refine lv_aload_n hx hb dX2_emit_0 rfl (lv_at hl 0 rfl) ?_
  refine gM_16 hC hP dX2_emit_1 ?_
  refine lv_aload_n hx hb dX2_emit_4 rfl (lv_at hl 0 rfl) ?_
  refine gM_136 hC hP dX2_emit_5 ?_
  refine lv_bipush (v := 73) hx hb dX2_emit_8 (by decide) ?_
  refine lv_iadd hx hb dX2_emit_10 ?_
  refine lv_iconst (v := 2) hx hb dX2_emit_11 (by decide) ?_
  refine lv_aload_n hx hb dX2_emit_12 rfl (lv_at hl 0 rfl) ?_
  refine gM_139 hC hP dX2_emit_13 ?_
  refine lv_imul hx hb dX2_emit_16 ?_
  refine lv_iadd hx hb dX2_emit_17 ?_
  refine lv_iload_n hx hb dX2_emit_18 rfl (lv_at hl 1 rfl) ?_
  obtain ⟨c_1, hE⟩ := og hE
  obtain ⟨z_1, ez_1, hE⟩ := on hE
  refine tM_2 hC hP hS c_1 ez_1 dX2_emit_19 (fun H locs hP hS => ?_)
  refine lv_aload_n hx hb dX2_emit_20 rfl (lv_at hl 0 rfl) ?_
  refine gM_16 hC hP dX2_emit_21 ?_
  refine lv_aload_n hx hb dX2_emit_24 rfl (lv_at hl 0 rfl) ?_
  refine gM_136 hC hP dX2_emit_25 ?_
  refine lv_bipush (v := 73) hx hb dX2_emit_28 (by decide) ?_
  refine lv_iadd hx hb dX2_emit_30 ?_
  refine lv_iconst (v := 2) hx hb dX2_emit_31 (by decide) ?_
  refine lv_aload_n hx hb dX2_emit_32 rfl (lv_at hl 0 rfl) ?_
  refine gM_139 hC hP dX2_emit_33 ?_
  refine lv_imul hx hb dX2_emit_36 ?_
  refine lv_iadd hx hb dX2_emit_37 ?_
  refine lv_iconst (v := 1) hx hb dX2_emit_38 (by decide) ?_
  refine lv_iadd hx hb dX2_emit_39 ?_
  refine lv_iload_n hx hb dX2_emit_40 rfl (lv_at hl 2 rfl) ?_
  obtain ⟨c_2, hE⟩ := og hE
  obtain ⟨z_2, ez_2, hE⟩ := on hE
  refine tM_2 hC hP hS c_2 ez_2 dX2_emit_41 (fun H locs hP hS => ?_)
  refine lv_aload_n hx hb dX2_emit_42 rfl (lv_at hl 0 rfl) ?_
  refine lv_dup hx hb dX2_emit_43 rfl ?_
  refine gM_139 hC hP dX2_emit_44 ?_
  refine lv_iconst (v := 1) hx hb dX2_emit_47 (by decide) ?_
  refine lv_iadd hx hb dX2_emit_48 ?_
  obtain ⟨z_3, ez_3, hE⟩ := on hE
  refine pM_139 hC hP hS ez_3 dX2_emit_49 (fun H locs hP hS => ?_)
  obtain rfl := Option.some.inj hE
  exact m_vret hC hP hS dX2_emit_52
def fX2_settle_J80 (k : Nat) (z : MS) (v1 : Int32) : Option (MS ⊕ MS) := nm (mI z 17 ((z.1 17) - (1 : Int32))) fun z_11 => some (.inl z_11)
set_option maxHeartbeats 1000000 in
theorem wX2_settle_J80 {p : Program} {l : Launch} {e : Env} {s : State} {m : MethodId} {args : Array Value} {below : List Frame} {meth : Method} {c : Code} {E : ME} {Q : State → Prop} (k : Nat) (z : MS) (v1 : Int32) (hC : mC E cX2_settle 2 none p s m args meth c) (y : MS ⊕ MS) (hE : fX2_settle_J80 k z v1 = some y) (hc : ∀ a : MS, y = .inl a → mW p l e rmX2_settle s m args below meth c E 2 Q 0 [(0, .ref (E.2.2.2.1 0)), (1, .int v1)] [] a) (hx1 : ∀ b : MS, y = .inr b → mW p l e rmX2_settle s m args below meth c E 2 Q 93 [] [] b) : mW p l e rmX2_settle s m args below meth c E 2 Q 80 [(0, .ref (E.2.2.2.1 0)), (1, .int v1)] [] z := by
  intro H locs ls hP hS hl
  have hx := hC.1
  have hb := hC.2.1
  have hown := hC.2.2.2.2.2.1
  have hts := hC.2.2.2.2.2.2.1
  unfold fX2_settle_J80 at hE
  refine lv_aload_n hx hb dX2_settle_80 rfl (lv_at hl 0 rfl) ?_
  refine lv_dup hx hb dX2_settle_81 rfl ?_
  refine gM_155 hC hP dX2_settle_82 ?_
  refine lv_iconst (v := 1) hx hb dX2_settle_85 (by decide) ?_
  refine lv_isub hx hb dX2_settle_86 ?_
  obtain ⟨z_11, ez_11, hE⟩ := on hE
  refine pM_155 hC hP hS ez_11 dX2_settle_87 (fun H locs hP hS => ?_)
  refine lv_goto (tgt := 0) hx hb dX2_settle_90 (by decide) ?_
  exact hc _ (Option.some.inj hE).symm H locs ls hP hS hl
def fX2_settle_B0 (k : Nat) (v1 : Int32) (a : MS) : Option (MS ⊕ MS) := if (a.1 16) ≤ 0 then (some (.inr a)) else (if ib ((a.1 16) - (1 : Int32)) 160 then none else ((fX2_rank (a.2.2.1 15 ((a.1 16) - (1 : Int32)).toNatClampNeg)).bind fun r_3 => if r_3 < v1 then (some (.inr a)) else (nm (mI a 16 ((a.1 16) - (1 : Int32))) fun z_5 => if ib (z_5.1 16) 160 then none else ((fX2_emit z_5 (z_5.2.2.1 15 (z_5.1 16).toNatClampNeg) (0 : Int32)).bind fun r_7 => if ib (r_7.1 16) 160 then none else ((fX2_rank (r_7.2.2.1 15 (r_7.1 16).toNatClampNeg)).bind fun r_9 => if r_9 = (7 : Int32) then ((fX2_settle_J80 k r_7 v1)) else (if ib (r_7.1 16) 160 then none else (if (r_7.2.2.1 15 (r_7.1 16).toNatClampNeg) = (20 : Int32) then ((fX2_settle_J80 k r_7 v1)) else (some (.inl r_7)))))))))
set_option maxHeartbeats 1000000 in
theorem wX2_settle_B0 {p : Program} {l : Launch} {e : Env} {s : State} {m : MethodId} {args : Array Value} {below : List Frame} {meth : Method} {c : Code} {E : ME} {Q : State → Prop} (k : Nat) (v1 : Int32) (hC : mC E cX2_settle 2 none p s m args meth c) (a : MS) (y : MS ⊕ MS) (hE : fX2_settle_B0 k v1 a = some y) (hc : ∀ a : MS, y = .inl a → mW p l e rmX2_settle s m args below meth c E 2 Q 0 [(0, .ref (E.2.2.2.1 0)), (1, .int v1)] [] a) (hx1 : ∀ b : MS, y = .inr b → mW p l e rmX2_settle s m args below meth c E 2 Q 93 [] [] b) : mW p l e rmX2_settle s m args below meth c E 2 Q 0 [(0, .ref (E.2.2.2.1 0)), (1, .int v1)] [] a := by
  intro H locs ls hP hS hl
  have hx := hC.1
  have hb := hC.2.1
  have hown := hC.2.2.2.2.2.1
  have hts := hC.2.2.2.2.2.2.1
  unfold fX2_settle_B0 at hE
  refine lv_aload_n hx hb dX2_settle_0 rfl (lv_at hl 0 rfl) ?_
  refine gM_146 hC hP dX2_settle_1 ?_
  refine lv_if_le (tgt := 93) hx hb dX2_settle_4 (by decide) (fun c_1 => ?_) (fun c_1 => ?_)
  · have hE := ip c_1 hE
    exact hx1 _ (Option.some.inj hE).symm H locs ls hP hS (lv_sub hl [] rfl)
  · have hE := iq c_1 hE
    refine lv_aload_n hx hb dX2_settle_7 rfl (lv_at hl 0 rfl) ?_
    refine gM_29 hC hP dX2_settle_8 ?_
    refine lv_aload_n hx hb dX2_settle_11 rfl (lv_at hl 0 rfl) ?_
    refine gM_146 hC hP dX2_settle_12 ?_
    refine lv_iconst (v := 1) hx hb dX2_settle_15 (by decide) ?_
    refine lv_isub hx hb dX2_settle_16 ?_
    obtain ⟨c_2, hE⟩ := og hE
    refine aM_15 hC hP c_2 dX2_settle_17 ?_
    obtain ⟨r_3, h_3, hE⟩ := ob hE
    refine s_calli [.int (a.2.2.1 15 ((a.1 16) - (1 : Int32)).toNatClampNeg)] hC.sC hl.1 (wX2_rank (a.2.2.1 15 ((a.1 16) - (1 : Int32)).toNatClampNeg) r_3 h_3) (va_cwS 1 hts lkX2_149 rfl rfl rfl cdX2_rank ⟨Nat.le_of_ble_eq_true rfl, Nat.le_of_ble_eq_true rfl⟩) rfl rfl (lv_room (Nat.le_of_ble_eq_true rfl)) ⟨Nat.zero_le _, Nat.zero_le _⟩ dX2_settle_18 ?_
    refine lv_iload_n hx hb dX2_settle_21 rfl (lv_at hl 1 rfl) ?_
    refine lv_icmp_lt (tgt := 93) hx hb dX2_settle_22 (by decide) (fun c_4 => ?_) (fun c_4 => ?_)
    · have hE := ip c_4 hE
      exact hx1 _ (Option.some.inj hE).symm H locs ls hP hS (lv_sub hl [] rfl)
    · have hE := iq c_4 hE
      refine lv_aload_n hx hb dX2_settle_25 rfl (lv_at hl 0 rfl) ?_
      refine lv_dup hx hb dX2_settle_26 rfl ?_
      refine gM_146 hC hP dX2_settle_27 ?_
      refine lv_iconst (v := 1) hx hb dX2_settle_30 (by decide) ?_
      refine lv_isub hx hb dX2_settle_31 ?_
      obtain ⟨z_5, ez_5, hE⟩ := on hE
      refine pM_146 hC hP hS ez_5 dX2_settle_32 (fun H locs hP hS => ?_)
      refine lv_aload_n hx hb dX2_settle_35 rfl (lv_at hl 0 rfl) ?_
      refine lv_aload_n hx hb dX2_settle_36 rfl (lv_at hl 0 rfl) ?_
      refine gM_29 hC hP dX2_settle_37 ?_
      refine lv_aload_n hx hb dX2_settle_40 rfl (lv_at hl 0 rfl) ?_
      refine gM_146 hC hP dX2_settle_41 ?_
      obtain ⟨c_6, hE⟩ := og hE
      refine aM_15 hC hP c_6 dX2_settle_44 ?_
      refine lv_iconst (v := 0) hx hb dX2_settle_45 (by decide) ?_
      obtain ⟨r_7, h_7, hE⟩ := ob hE
      refine m_callv [.int (z_5.2.2.1 15 (z_5.1 16).toNatClampNeg), .int (0 : Int32)] hC hP hS hl.1 (wX2_emit z_5 (z_5.2.2.1 15 (z_5.1 16).toNatClampNeg) (0 : Int32) r_7 h_7) (cwV 2 hts lkX2_152 rfl rfl rfl cdX2_emit ⟨Nat.le_of_ble_eq_true rfl, Nat.le_of_ble_eq_true rfl⟩) rfl rfl (lv_room (Nat.le_of_ble_eq_true rfl)) dX2_settle_46 (fun H locs hP hS => ?_)
      refine lv_aload_n hx hb dX2_settle_49 rfl (lv_at hl 0 rfl) ?_
      refine gM_29 hC hP dX2_settle_50 ?_
      refine lv_aload_n hx hb dX2_settle_53 rfl (lv_at hl 0 rfl) ?_
      refine gM_146 hC hP dX2_settle_54 ?_
      obtain ⟨c_8, hE⟩ := og hE
      refine aM_15 hC hP c_8 dX2_settle_57 ?_
      obtain ⟨r_9, h_9, hE⟩ := ob hE
      refine s_calli [.int (r_7.2.2.1 15 (r_7.1 16).toNatClampNeg)] hC.sC hl.1 (wX2_rank (r_7.2.2.1 15 (r_7.1 16).toNatClampNeg) r_9 h_9) (va_cwS 1 hts lkX2_149 rfl rfl rfl cdX2_rank ⟨Nat.le_of_ble_eq_true rfl, Nat.le_of_ble_eq_true rfl⟩) rfl rfl (lv_room (Nat.le_of_ble_eq_true rfl)) ⟨Nat.zero_le _, Nat.zero_le _⟩ dX2_settle_58 ?_
      refine lv_bipush (v := 7) hx hb dX2_settle_61 (by decide) ?_
      refine lv_icmp_eq (tgt := 80) hx hb dX2_settle_63 (by decide) (fun c_10 => ?_) (fun c_10 => ?_)
      · have hE := ip c_10 hE
        exact wX2_settle_J80 k r_7 v1 hC y hE hc hx1 H locs ls hP hS hl
      · have hE := iq c_10 hE
        refine lv_aload_n hx hb dX2_settle_66 rfl (lv_at hl 0 rfl) ?_
        refine gM_29 hC hP dX2_settle_67 ?_
        refine lv_aload_n hx hb dX2_settle_70 rfl (lv_at hl 0 rfl) ?_
        refine gM_146 hC hP dX2_settle_71 ?_
        obtain ⟨c_12, hE⟩ := og hE
        refine aM_15 hC hP c_12 dX2_settle_74 ?_
        refine lv_bipush (v := 20) hx hb dX2_settle_75 (by decide) ?_
        refine lv_icmp_ne (tgt := 0) hx hb dX2_settle_77 (by decide) (fun c_13 => ?_) (fun c_13 => ?_)
        · have hE := iq c_13 hE
          exact hc _ (Option.some.inj hE).symm H locs ls hP hS hl
        · have hE := ip c_13 hE
          exact wX2_settle_J80 k r_7 v1 hC y hE hc hx1 H locs ls hP hS hl
def fX2_settle (k : Nat) (z : MS) (x1 : Int32) : Option MS := (lpo (fX2_settle_B0 k x1) k z).bind fun x_14 => some x_14
set_option maxHeartbeats 1000000 in
theorem wX2_settle {l : Launch} {E : ME} (k : Nat) (z : MS) (x1 : Int32) (y : MS) (hE : fX2_settle k z x1 = some y) : mM l yX2_settle (ws_ yX2_settle cX2_settle 2 none) rmX2_settle E z [.int x1] none y := by
  refine m_met (by decide) rfl (Nat.le_of_ble_eq_true rfl) (fun p e s m args below meth c hC => ?_)
  intro H locs ls hP hS hl
  have hx := hC.1
  have hb := hC.2.1
  have hown := hC.2.2.2.2.2.1
  have hts := hC.2.2.2.2.2.2.1
  have hl : lv_has ls 2 [(0, .ref (E.2.2.2.1 0)), (1, .int x1)] := hl
  unfold fX2_settle at hE
  obtain ⟨x_14, h_14, hE⟩ := ob hE
  refine lpo_walk (fun p_14 : MS => mW p l e rmX2_settle s m args below meth c E 2 (mQ E below args s none y) 0 [(0, .ref (E.2.2.2.1 0)), (1, .int x1)] [] p_14) (fun q_14 : MS => mW p l e rmX2_settle s m args below meth c E 2 (mQ E below args s none y) 93 [] [] q_14) (fun a_14 y_14 hB_14 hc_14 hx_14 => wX2_settle_B0 k x1 hC a_14 y_14 hB_14 hc_14 hx_14) _ _ x_14 h_14 ?_ H locs ls hP hS hl
  intro H locs ls hP hS hl
  obtain rfl := Option.some.inj hE
  exact m_vret hC hP hS dX2_settle_93
def fX2_partOf (k : Nat) (z : MS) (x1 : Int32) : Option Int32 := if x1 = (40 : Int32) then (if (z.1 9) = (41 : Int32) then (some (0 : Int32)) else (some (-1 : Int32))) else if x1 = (42 : Int32) then ((fX2_w4 (116 : Int32) (104 : Int32) (101 : Int32) (110 : Int32)).bind fun r_3 => (fX2_isWord z r_3).bind fun r_4 => if r_4 = 0 then (some (-1 : Int32)) else ((fX2_isCompared k z ).bind fun r_6 => if r_6 = 0 then (some (-1 : Int32)) else (some (43 : Int32)))) else if x1 = (43 : Int32) then ((fX2_w4 (101 : Int32) (108 : Int32) (115 : Int32) (101 : Int32)).bind fun r_8 => (fX2_isWord z r_8).bind fun r_9 => if r_9 = 0 then (some (-1 : Int32)) else (some (44 : Int32))) else if x1 = (44 : Int32) then ((fX2_w3 (101 : Int32) (110 : Int32) (100 : Int32)).bind fun r_11 => (fX2_isWord z r_11).bind fun r_12 => if r_12 = 0 then (some (-1 : Int32)) else (some (0 : Int32))) else (some (-1 : Int32))
set_option maxHeartbeats 1000000 in
theorem wX2_partOf {l : Launch} {E : ME} (k : Nat) (z : MS) (x1 : Int32) (y : Int32) (hE : fX2_partOf k z x1 = some y) : mM l yX2_partOf (ws_ yX2_partOf cX2_partOf 2 (some .int)) rmX2_partOf E z [.int x1] (some (.int y)) z := by
  refine m_met (by decide) rfl (Nat.le_of_ble_eq_true rfl) (fun p e s m args below meth c hC => ?_)
  intro H locs ls hP hS hl
  have hx := hC.1
  have hb := hC.2.1
  have hown := hC.2.2.2.2.2.1
  have hts := hC.2.2.2.2.2.2.1
  have hl : lv_has ls 2 [(0, .ref (E.2.2.2.1 0)), (1, .int x1)] := hl
  unfold fX2_partOf at hE
  refine lv_iload_n hx hb dX2_partOf_0 rfl (lv_at hl 1 rfl) ?_
  by_cases c_1_0 : x1 = (40 : Int32)
  · have hE := ip c_1_0 hE
    refine lv_tableIn (tgt := 36) (off := 35) hx hb dX2_partOf_1 (by rw [c_1_0]; decide) (by rw [c_1_0]; decide) (by rw [c_1_0]; rfl) (by decide) ?_
    refine lv_aload_n hx hb dX2_partOf_36 rfl (lv_at hl 0 rfl) ?_
    refine gM_98 hC hP dX2_partOf_37 ?_
    refine lv_bipush (v := 41) hx hb dX2_partOf_40 (by decide) ?_
    refine lv_icmp_ne (tgt := 49) hx hb dX2_partOf_42 (by decide) (fun c_2 => ?_) (fun c_2 => ?_)
    · have hE := iq c_2 hE
      refine lv_iconst (v := -1) hx hb dX2_partOf_49 (by decide) ?_
      obtain rfl := Option.some.inj hE
      exact m_iret hC hP hS dX2_partOf_50
    · have hE := ip c_2 hE
      refine lv_iconst (v := 0) hx hb dX2_partOf_45 (by decide) ?_
      refine lv_goto (tgt := 50) hx hb dX2_partOf_46 (by decide) ?_
      obtain rfl := Option.some.inj hE
      exact m_iret hC hP hS dX2_partOf_50
  have hE := iq c_1_0 hE
  by_cases c_1_2 : x1 = (42 : Int32)
  · have hE := ip c_1_2 hE
    refine lv_tableIn (tgt := 51) (off := 50) hx hb dX2_partOf_1 (by rw [c_1_2]; decide) (by rw [c_1_2]; decide) (by rw [c_1_2]; rfl) (by decide) ?_
    refine lv_aload_n hx hb dX2_partOf_51 rfl (lv_at hl 0 rfl) ?_
    refine lv_bipush (v := 116) hx hb dX2_partOf_52 (by decide) ?_
    refine lv_bipush (v := 104) hx hb dX2_partOf_54 (by decide) ?_
    refine lv_bipush (v := 101) hx hb dX2_partOf_56 (by decide) ?_
    refine lv_bipush (v := 110) hx hb dX2_partOf_58 (by decide) ?_
    obtain ⟨r_3, h_3, hE⟩ := ob hE
    refine s_calll [.int (116 : Int32), .int (104 : Int32), .int (101 : Int32), .int (110 : Int32)] hC.sC hl.1 (wX2_w4 (116 : Int32) (104 : Int32) (101 : Int32) (110 : Int32) r_3 h_3) (va_cwS 4 hts lkX2_128 rfl rfl rfl cdX2_w4 ⟨Nat.le_of_ble_eq_true rfl, Nat.le_of_ble_eq_true rfl⟩) rfl rfl (lv_room (Nat.le_of_ble_eq_true rfl)) ⟨Nat.zero_le _, Nat.zero_le _⟩ dX2_partOf_60 ?_
    obtain ⟨r_4, h_4, hE⟩ := ob hE
    refine m_calli [.long r_3] hC hP hS hl.1 (wX2_isWord z r_3 r_4 h_4) (cwV 1 hts lkX2_180 rfl rfl rfl cdX2_isWord ⟨Nat.le_of_ble_eq_true rfl, Nat.le_of_ble_eq_true rfl⟩) rfl rfl (lv_room (Nat.le_of_ble_eq_true rfl)) dX2_partOf_63 (fun H locs hP hS => ?_)
    refine lv_if_eq (tgt := 81) hx hb dX2_partOf_66 (by decide) (fun c_5 => ?_) (fun c_5 => ?_)
    · have hE := ip c_5 hE
      refine lv_iconst (v := -1) hx hb dX2_partOf_81 (by decide) ?_
      obtain rfl := Option.some.inj hE
      exact m_iret hC hP hS dX2_partOf_82
    · have hE := iq c_5 hE
      refine lv_aload_n hx hb dX2_partOf_69 rfl (lv_at hl 0 rfl) ?_
      obtain ⟨r_6, h_6, hE⟩ := ob hE
      refine m_calli [] hC hP hS hl.1 (wX2_isCompared k z  r_6 h_6) (cwV 0 hts lkX2_194 rfl rfl rfl cdX2_isCompared ⟨Nat.le_of_ble_eq_true rfl, Nat.le_of_ble_eq_true rfl⟩) rfl rfl (lv_room (Nat.le_of_ble_eq_true rfl)) dX2_partOf_70 (fun H locs hP hS => ?_)
      refine lv_if_eq (tgt := 81) hx hb dX2_partOf_73 (by decide) (fun c_7 => ?_) (fun c_7 => ?_)
      · have hE := ip c_7 hE
        refine lv_iconst (v := -1) hx hb dX2_partOf_81 (by decide) ?_
        obtain rfl := Option.some.inj hE
        exact m_iret hC hP hS dX2_partOf_82
      · have hE := iq c_7 hE
        refine lv_bipush (v := 43) hx hb dX2_partOf_76 (by decide) ?_
        refine lv_goto (tgt := 82) hx hb dX2_partOf_78 (by decide) ?_
        obtain rfl := Option.some.inj hE
        exact m_iret hC hP hS dX2_partOf_82
  have hE := iq c_1_2 hE
  by_cases c_1_3 : x1 = (43 : Int32)
  · have hE := ip c_1_3 hE
    refine lv_tableIn (tgt := 83) (off := 82) hx hb dX2_partOf_1 (by rw [c_1_3]; decide) (by rw [c_1_3]; decide) (by rw [c_1_3]; rfl) (by decide) ?_
    refine lv_aload_n hx hb dX2_partOf_83 rfl (lv_at hl 0 rfl) ?_
    refine lv_bipush (v := 101) hx hb dX2_partOf_84 (by decide) ?_
    refine lv_bipush (v := 108) hx hb dX2_partOf_86 (by decide) ?_
    refine lv_bipush (v := 115) hx hb dX2_partOf_88 (by decide) ?_
    refine lv_bipush (v := 101) hx hb dX2_partOf_90 (by decide) ?_
    obtain ⟨r_8, h_8, hE⟩ := ob hE
    refine s_calll [.int (101 : Int32), .int (108 : Int32), .int (115 : Int32), .int (101 : Int32)] hC.sC hl.1 (wX2_w4 (101 : Int32) (108 : Int32) (115 : Int32) (101 : Int32) r_8 h_8) (va_cwS 4 hts lkX2_128 rfl rfl rfl cdX2_w4 ⟨Nat.le_of_ble_eq_true rfl, Nat.le_of_ble_eq_true rfl⟩) rfl rfl (lv_room (Nat.le_of_ble_eq_true rfl)) ⟨Nat.zero_le _, Nat.zero_le _⟩ dX2_partOf_92 ?_
    obtain ⟨r_9, h_9, hE⟩ := ob hE
    refine m_calli [.long r_8] hC hP hS hl.1 (wX2_isWord z r_8 r_9 h_9) (cwV 1 hts lkX2_180 rfl rfl rfl cdX2_isWord ⟨Nat.le_of_ble_eq_true rfl, Nat.le_of_ble_eq_true rfl⟩) rfl rfl (lv_room (Nat.le_of_ble_eq_true rfl)) dX2_partOf_95 (fun H locs hP hS => ?_)
    refine lv_if_eq (tgt := 106) hx hb dX2_partOf_98 (by decide) (fun c_10 => ?_) (fun c_10 => ?_)
    · have hE := ip c_10 hE
      refine lv_iconst (v := -1) hx hb dX2_partOf_106 (by decide) ?_
      obtain rfl := Option.some.inj hE
      exact m_iret hC hP hS dX2_partOf_107
    · have hE := iq c_10 hE
      refine lv_bipush (v := 44) hx hb dX2_partOf_101 (by decide) ?_
      refine lv_goto (tgt := 107) hx hb dX2_partOf_103 (by decide) ?_
      obtain rfl := Option.some.inj hE
      exact m_iret hC hP hS dX2_partOf_107
  have hE := iq c_1_3 hE
  by_cases c_1_4 : x1 = (44 : Int32)
  · have hE := ip c_1_4 hE
    refine lv_tableIn (tgt := 108) (off := 107) hx hb dX2_partOf_1 (by rw [c_1_4]; decide) (by rw [c_1_4]; decide) (by rw [c_1_4]; rfl) (by decide) ?_
    refine lv_aload_n hx hb dX2_partOf_108 rfl (lv_at hl 0 rfl) ?_
    refine lv_bipush (v := 101) hx hb dX2_partOf_109 (by decide) ?_
    refine lv_bipush (v := 110) hx hb dX2_partOf_111 (by decide) ?_
    refine lv_bipush (v := 100) hx hb dX2_partOf_113 (by decide) ?_
    obtain ⟨r_11, h_11, hE⟩ := ob hE
    refine s_calll [.int (101 : Int32), .int (110 : Int32), .int (100 : Int32)] hC.sC hl.1 (wX2_w3 (101 : Int32) (110 : Int32) (100 : Int32) r_11 h_11) (va_cwS 3 hts lkX2_124 rfl rfl rfl cdX2_w3 ⟨Nat.le_of_ble_eq_true rfl, Nat.le_of_ble_eq_true rfl⟩) rfl rfl (lv_room (Nat.le_of_ble_eq_true rfl)) ⟨Nat.zero_le _, Nat.zero_le _⟩ dX2_partOf_115 ?_
    obtain ⟨r_12, h_12, hE⟩ := ob hE
    refine m_calli [.long r_11] hC hP hS hl.1 (wX2_isWord z r_11 r_12 h_12) (cwV 1 hts lkX2_180 rfl rfl rfl cdX2_isWord ⟨Nat.le_of_ble_eq_true rfl, Nat.le_of_ble_eq_true rfl⟩) rfl rfl (lv_room (Nat.le_of_ble_eq_true rfl)) dX2_partOf_118 (fun H locs hP hS => ?_)
    refine lv_if_eq (tgt := 128) hx hb dX2_partOf_121 (by decide) (fun c_13 => ?_) (fun c_13 => ?_)
    · have hE := ip c_13 hE
      refine lv_iconst (v := -1) hx hb dX2_partOf_128 (by decide) ?_
      obtain rfl := Option.some.inj hE
      exact m_iret hC hP hS dX2_partOf_129
    · have hE := iq c_13 hE
      refine lv_iconst (v := 0) hx hb dX2_partOf_124 (by decide) ?_
      refine lv_goto (tgt := 129) hx hb dX2_partOf_125 (by decide) ?_
      obtain rfl := Option.some.inj hE
      exact m_iret hC hP hS dX2_partOf_129
  have hE := iq c_1_4 hE
  refine m_tdef (tgt := 130) hx hb dX2_partOf_1 (by decide) (fun h1 h2 => ?_) ?_
  · have h3 : x1.toInt = 40 ∨ x1.toInt = 41 ∨ x1.toInt = 42 ∨ x1.toInt = 43 ∨ x1.toInt = 44 := by omega
    rcases h3 with h3 | h3 | h3 | h3 | h3
    · exact absurd (Int32.toInt_inj.mp (by rw [h3]; decide)) c_1_0
    · rw [h3]; rfl
    · exact absurd (Int32.toInt_inj.mp (by rw [h3]; decide)) c_1_2
    · exact absurd (Int32.toInt_inj.mp (by rw [h3]; decide)) c_1_3
    · exact absurd (Int32.toInt_inj.mp (by rw [h3]; decide)) c_1_4
  refine lv_iconst (v := -1) hx hb dX2_partOf_130 (by decide) ?_
  obtain rfl := Option.some.inj hE
  exact m_iret hC hP hS dX2_partOf_131
def fX2_endOne (k : Nat) (z : MS)  : Option (Int32 × MS) := (fX2_settle k z (7 : Int32)).bind fun r_1 => nm (mI r_1 18 (1 : Int32)) fun z_2 => if (z_2.1 16) = 0 then (some ((0 : Int32), z_2)) else (if ib ((z_2.1 16) - (1 : Int32)) 160 then none else (if (z_2.2.2.1 15 ((z_2.1 16) - (1 : Int32)).toNatClampNeg) = (41 : Int32) then ((fX2_w2 (111 : Int32) (102 : Int32)).bind fun r_6 => (fX2_isWord z_2 r_6).bind fun r_7 => if r_7 = 0 then (some ((1 : Int32), z_2)) else ((fX2_nextToken k z_2 ).bind fun r_9 => if ib ((r_9.1 16) - (1 : Int32)) 160 then none else (nm (mA r_9 15 (upd (r_9.2.2.1 15) ((r_9.1 16) - (1 : Int32)).toNatClampNeg (4 : Int32))) fun z_10 => nm (mI z_10 18 (0 : Int32)) fun z_11 => some ((0 : Int32), z_11)))) else (some ((0 : Int32), z_2))))
set_option maxHeartbeats 1000000 in
theorem wX2_endOne {l : Launch} {E : ME} (k : Nat) (z : MS)  (y : Int32 × MS) (hE : fX2_endOne k z  = some y) : mM l yX2_endOne (ws_ yX2_endOne cX2_endOne 1 (some .int)) rmX2_endOne E z [] (some (.int y.1)) y.2 := by
  refine m_met (by decide) rfl (Nat.le_of_ble_eq_true rfl) (fun p e s m args below meth c hC => ?_)
  intro H locs ls hP hS hl
  have hx := hC.1
  have hb := hC.2.1
  have hown := hC.2.2.2.2.2.1
  have hts := hC.2.2.2.2.2.2.1
  have hl : lv_has ls 1 [(0, .ref (E.2.2.2.1 0))] := hl
  unfold fX2_endOne at hE
  refine lv_aload_n hx hb dX2_endOne_0 rfl (lv_at hl 0 rfl) ?_
  refine lv_bipush (v := 7) hx hb dX2_endOne_1 (by decide) ?_
  obtain ⟨r_1, h_1, hE⟩ := ob hE
  refine m_callv [.int (7 : Int32)] hC hP hS hl.1 (wX2_settle k z (7 : Int32) r_1 h_1) (cwV 1 hts lkX2_188 rfl rfl rfl cdX2_settle ⟨Nat.le_of_ble_eq_true rfl, Nat.le_of_ble_eq_true rfl⟩) rfl rfl (lv_room (Nat.le_of_ble_eq_true rfl)) dX2_endOne_3 (fun H locs hP hS => ?_)
  refine lv_aload_n hx hb dX2_endOne_6 rfl (lv_at hl 0 rfl) ?_
  refine lv_iconst (v := 1) hx hb dX2_endOne_7 (by decide) ?_
  obtain ⟨z_2, ez_2, hE⟩ := on hE
  refine pM_191 hC hP hS ez_2 (by decide) (by decide) dX2_endOne_8 (fun H locs hP hS => ?_)
  refine lv_aload_n hx hb dX2_endOne_11 rfl (lv_at hl 0 rfl) ?_
  refine gM_146 hC hP dX2_endOne_12 ?_
  refine lv_if_eq (tgt := 34) hx hb dX2_endOne_15 (by decide) (fun c_3 => ?_) (fun c_3 => ?_)
  · have hE := ip c_3 hE
    refine lv_iconst (v := 0) hx hb dX2_endOne_34 (by decide) ?_
    obtain rfl := Option.some.inj hE
    exact m_iret hC hP hS dX2_endOne_35
  · have hE := iq c_3 hE
    refine lv_aload_n hx hb dX2_endOne_18 rfl (lv_at hl 0 rfl) ?_
    refine gM_29 hC hP dX2_endOne_19 ?_
    refine lv_aload_n hx hb dX2_endOne_22 rfl (lv_at hl 0 rfl) ?_
    refine gM_146 hC hP dX2_endOne_23 ?_
    refine lv_iconst (v := 1) hx hb dX2_endOne_26 (by decide) ?_
    refine lv_isub hx hb dX2_endOne_27 ?_
    obtain ⟨c_4, hE⟩ := og hE
    refine aM_15 hC hP c_4 dX2_endOne_28 ?_
    refine lv_bipush (v := 41) hx hb dX2_endOne_29 (by decide) ?_
    refine lv_icmp_eq (tgt := 36) hx hb dX2_endOne_31 (by decide) (fun c_5 => ?_) (fun c_5 => ?_)
    · have hE := ip c_5 hE
      refine lv_aload_n hx hb dX2_endOne_36 rfl (lv_at hl 0 rfl) ?_
      refine lv_bipush (v := 111) hx hb dX2_endOne_37 (by decide) ?_
      refine lv_bipush (v := 102) hx hb dX2_endOne_39 (by decide) ?_
      obtain ⟨r_6, h_6, hE⟩ := ob hE
      refine s_calll [.int (111 : Int32), .int (102 : Int32)] hC.sC hl.1 (wX2_w2 (111 : Int32) (102 : Int32) r_6 h_6) (va_cwS 2 hts lkX2_120 rfl rfl rfl cdX2_w2 ⟨Nat.le_of_ble_eq_true rfl, Nat.le_of_ble_eq_true rfl⟩) rfl rfl (lv_room (Nat.le_of_ble_eq_true rfl)) ⟨Nat.zero_le _, Nat.zero_le _⟩ dX2_endOne_41 ?_
      obtain ⟨r_7, h_7, hE⟩ := ob hE
      refine m_calli [.long r_6] hC hP hS hl.1 (wX2_isWord z_2 r_6 r_7 h_7) (cwV 1 hts lkX2_180 rfl rfl rfl cdX2_isWord ⟨Nat.le_of_ble_eq_true rfl, Nat.le_of_ble_eq_true rfl⟩) rfl rfl (lv_room (Nat.le_of_ble_eq_true rfl)) dX2_endOne_44 (fun H locs hP hS => ?_)
      refine lv_if_ne (tgt := 52) hx hb dX2_endOne_47 (by decide) (fun c_8 => ?_) (fun c_8 => ?_)
      · have hE := iq c_8 hE
        refine lv_aload_n hx hb dX2_endOne_52 rfl (lv_at hl 0 rfl) ?_
        obtain ⟨r_9, h_9, hE⟩ := ob hE
        refine m_callv [] hC hP hS hl.1 (wX2_nextToken k z_2  r_9 h_9) (cwV 0 hts lkX2_165 rfl rfl rfl cdX2_nextToken ⟨Nat.le_of_ble_eq_true rfl, Nat.le_of_ble_eq_true rfl⟩) rfl rfl (lv_room (Nat.le_of_ble_eq_true rfl)) dX2_endOne_53 (fun H locs hP hS => ?_)
        refine lv_aload_n hx hb dX2_endOne_56 rfl (lv_at hl 0 rfl) ?_
        refine gM_29 hC hP dX2_endOne_57 ?_
        refine lv_aload_n hx hb dX2_endOne_60 rfl (lv_at hl 0 rfl) ?_
        refine gM_146 hC hP dX2_endOne_61 ?_
        refine lv_iconst (v := 1) hx hb dX2_endOne_64 (by decide) ?_
        refine lv_isub hx hb dX2_endOne_65 ?_
        refine lv_iconst (v := 4) hx hb dX2_endOne_66 (by decide) ?_
        obtain ⟨c_10, hE⟩ := og hE
        obtain ⟨z_10, ez_10, hE⟩ := on hE
        refine tM_15 hC hP hS c_10 ez_10 dX2_endOne_67 (fun H locs hP hS => ?_)
        refine lv_aload_n hx hb dX2_endOne_68 rfl (lv_at hl 0 rfl) ?_
        refine lv_iconst (v := 0) hx hb dX2_endOne_69 (by decide) ?_
        obtain ⟨z_11, ez_11, hE⟩ := on hE
        refine pM_191 hC hP hS ez_11 (by decide) (by decide) dX2_endOne_70 (fun H locs hP hS => ?_)
        refine lv_iconst (v := 0) hx hb dX2_endOne_73 (by decide) ?_
        obtain rfl := Option.some.inj hE
        exact m_iret hC hP hS dX2_endOne_74
      · have hE := ip c_8 hE
        refine lv_iconst (v := 1) hx hb dX2_endOne_50 (by decide) ?_
        obtain rfl := Option.some.inj hE
        exact m_iret hC hP hS dX2_endOne_51
    · have hE := iq c_5 hE
      refine lv_iconst (v := 0) hx hb dX2_endOne_34 (by decide) ?_
      obtain rfl := Option.some.inj hE
      exact m_iret hC hP hS dX2_endOne_35
def fX2_behindOne_J122 (k : Nat) (z : MS)  : Option (Int32 × MS) := (fX2_endOne k z ).bind fun r_15 => some (r_15.1, r_15.2)
set_option maxHeartbeats 1000000 in
theorem wX2_behindOne_J122 {p : Program} {l : Launch} {e : Env} {s : State} {m : MethodId} {args : Array Value} {below : List Frame} {meth : Method} {c : Code} {E : ME} (k : Nat) (z : MS)  (hC : mC E cX2_behindOne 4 (some .int) p s m args meth c) (y : Int32 × MS) (hE : fX2_behindOne_J122 k z  = some y) : mW p l e rmX2_behindOne s m args below meth c E 4 (mQ E below args s (some (.int y.1)) y.2) 122 [(0, .ref (E.2.2.2.1 0))] [] z := by
  intro H locs ls hP hS hl
  have hx := hC.1
  have hb := hC.2.1
  have hown := hC.2.2.2.2.2.1
  have hts := hC.2.2.2.2.2.2.1
  unfold fX2_behindOne_J122 at hE
  refine lv_aload_n hx hb dX2_behindOne_122 rfl (lv_at hl 0 rfl) ?_
  obtain ⟨r_15, h_15, hE⟩ := ob hE
  refine m_calli [] hC hP hS hl.1 (wX2_endOne k z  r_15 h_15) (cwV 0 hts lkX2_174 rfl rfl rfl cdX2_endOne ⟨Nat.le_of_ble_eq_true rfl, Nat.le_of_ble_eq_true rfl⟩) rfl rfl (lv_room (Nat.le_of_ble_eq_true rfl)) dX2_behindOne_123 (fun H locs hP hS => ?_)
  obtain rfl := Option.some.inj hE
  exact m_iret hC hP hS dX2_behindOne_126
def fX2_behindOne_J26 (k : Nat) (z : MS) (x1 : Int32) (t0 : Int32) : Option (Int32 × MS) := (fX2_settle k z t0).bind fun r_20 => if ib (r_20.1 16) 160 then none else (nm (mA r_20 15 (upd (r_20.2.2.1 15) (r_20.1 16).toNatClampNeg x1)) fun z_21 => nm (mI z_21 16 ((z_21.1 16) + (1 : Int32))) fun z_22 => nm (mI z_22 18 (0 : Int32)) fun z_23 => (fX2_nextToken k z_23 ).bind fun r_24 => some ((0 : Int32), r_24))
set_option maxHeartbeats 1000000 in
theorem wX2_behindOne_J26 {p : Program} {l : Launch} {e : Env} {s : State} {m : MethodId} {args : Array Value} {below : List Frame} {meth : Method} {c : Code} {E : ME} (k : Nat) (z : MS) (x1 : Int32) (t0 : Int32) (hC : mC E cX2_behindOne 4 (some .int) p s m args meth c) (y : Int32 × MS) (hE : fX2_behindOne_J26 k z x1 t0 = some y) : mW p l e rmX2_behindOne s m args below meth c E 4 (mQ E below args s (some (.int y.1)) y.2) 26 [(0, .ref (E.2.2.2.1 0)), (1, .int x1)] [.int t0, .ref (E.2.2.2.1 0)] z := by
  intro H locs ls hP hS hl
  have hx := hC.1
  have hb := hC.2.1
  have hown := hC.2.2.2.2.2.1
  have hts := hC.2.2.2.2.2.2.1
  unfold fX2_behindOne_J26 at hE
  obtain ⟨r_20, h_20, hE⟩ := ob hE
  refine m_callv [.int t0] hC hP hS hl.1 (wX2_settle k z t0 r_20 h_20) (cwV 1 hts lkX2_188 rfl rfl rfl cdX2_settle ⟨Nat.le_of_ble_eq_true rfl, Nat.le_of_ble_eq_true rfl⟩) rfl rfl (lv_room (Nat.le_of_ble_eq_true rfl)) dX2_behindOne_26 (fun H locs hP hS => ?_)
  refine lv_aload_n hx hb dX2_behindOne_29 rfl (lv_at hl 0 rfl) ?_
  refine gM_29 hC hP dX2_behindOne_30 ?_
  refine lv_aload_n hx hb dX2_behindOne_33 rfl (lv_at hl 0 rfl) ?_
  refine gM_146 hC hP dX2_behindOne_34 ?_
  refine lv_iload_n hx hb dX2_behindOne_37 rfl (lv_at hl 1 rfl) ?_
  obtain ⟨c_21, hE⟩ := og hE
  obtain ⟨z_21, ez_21, hE⟩ := on hE
  refine tM_15 hC hP hS c_21 ez_21 dX2_behindOne_38 (fun H locs hP hS => ?_)
  refine lv_aload_n hx hb dX2_behindOne_39 rfl (lv_at hl 0 rfl) ?_
  refine lv_dup hx hb dX2_behindOne_40 rfl ?_
  refine gM_146 hC hP dX2_behindOne_41 ?_
  refine lv_iconst (v := 1) hx hb dX2_behindOne_44 (by decide) ?_
  refine lv_iadd hx hb dX2_behindOne_45 ?_
  obtain ⟨z_22, ez_22, hE⟩ := on hE
  refine pM_146 hC hP hS ez_22 dX2_behindOne_46 (fun H locs hP hS => ?_)
  refine lv_aload_n hx hb dX2_behindOne_49 rfl (lv_at hl 0 rfl) ?_
  refine lv_iconst (v := 0) hx hb dX2_behindOne_50 (by decide) ?_
  obtain ⟨z_23, ez_23, hE⟩ := on hE
  refine pM_191 hC hP hS ez_23 (by decide) (by decide) dX2_behindOne_51 (fun H locs hP hS => ?_)
  refine lv_aload_n hx hb dX2_behindOne_54 rfl (lv_at hl 0 rfl) ?_
  obtain ⟨r_24, h_24, hE⟩ := ob hE
  refine m_callv [] hC hP hS hl.1 (wX2_nextToken k z_23  r_24 h_24) (cwV 0 hts lkX2_165 rfl rfl rfl cdX2_nextToken ⟨Nat.le_of_ble_eq_true rfl, Nat.le_of_ble_eq_true rfl⟩) rfl rfl (lv_room (Nat.le_of_ble_eq_true rfl)) dX2_behindOne_55 (fun H locs hP hS => ?_)
  refine lv_iconst (v := 0) hx hb dX2_behindOne_58 (by decide) ?_
  obtain rfl := Option.some.inj hE
  exact m_iret hC hP hS dX2_behindOne_59
def fX2_behindOne (k : Nat) (z : MS)  : Option (Int32 × MS) := (fX2_betweenOf k z ).bind fun r_1 => if r_1 < 0 then ((fX2_openNow k z ).bind fun r_3 => (fX2_partOf k z r_3).bind fun r_4 => if 0 ≤ r_4 then ((fX2_settle k z (1 : Int32)).bind fun r_6 => (fX2_nextToken k r_6 ).bind fun r_7 => if r_4 = 0 then (nm (mI r_7 17 ((r_7.1 17) - (1 : Int32))) fun z_12 => nm (mI z_12 16 ((z_12.1 16) - (1 : Int32))) fun z_13 => if r_3 = (44 : Int32) then ((fX2_emit z_13 (3 : Int32) (0 : Int32)).bind fun r_16 => (fX2_behindOne_J122 k r_16 )) else ((fX2_behindOne_J122 k z_13 ))) else ((fX2_openAt k r_7 ).bind fun r_9 => if ib r_9 160 then none else (nm (mA r_7 15 (upd (r_7.2.2.1 15) r_9.toNatClampNeg r_4)) fun z_10 => nm (mI z_10 18 (0 : Int32)) fun z_11 => some ((0 : Int32), z_11)))) else (some ((-1 : Int32), z))) else ((fX2_rank r_1).bind fun r_17 => if r_17 = (4 : Int32) then ((fX2_behindOne_J26 k z r_1 (5 : Int32))) else ((fX2_rank r_1).bind fun r_19 => (fX2_behindOne_J26 k z r_1 r_19)))
set_option maxHeartbeats 1000000 in
theorem wX2_behindOne {l : Launch} {E : ME} (k : Nat) (z : MS)  (y : Int32 × MS) (hE : fX2_behindOne k z  = some y) : mM l yX2_behindOne (ws_ yX2_behindOne cX2_behindOne 4 (some .int)) rmX2_behindOne E z [] (some (.int y.1)) y.2 := by
  refine m_met (by decide) rfl (Nat.le_of_ble_eq_true rfl) (fun p e s m args below meth c hC => ?_)
  intro H locs ls hP hS hl
  have hx := hC.1
  have hb := hC.2.1
  have hown := hC.2.2.2.2.2.1
  have hts := hC.2.2.2.2.2.2.1
  have hl : lv_has ls 4 [(0, .ref (E.2.2.2.1 0))] := hl
  unfold fX2_behindOne at hE
  refine lv_aload_n hx hb dX2_behindOne_0 rfl (lv_at hl 0 rfl) ?_
  obtain ⟨r_1, h_1, hE⟩ := ob hE
  refine m_calli [] hC hP hS hl.1 (wX2_betweenOf k z  r_1 h_1) (cwV 0 hts lkX2_200 rfl rfl rfl cdX2_betweenOf ⟨Nat.le_of_ble_eq_true rfl, Nat.le_of_ble_eq_true rfl⟩) rfl rfl (lv_room (Nat.le_of_ble_eq_true rfl)) dX2_behindOne_1 (fun H locs hP hS => ?_)
  refine lv_istore_n (lv' := [(1, .int r_1), (0, .ref (E.2.2.2.1 0))]) hx hb dX2_behindOne_4 rfl hl (Nat.le_of_ble_eq_true rfl) rfl (fun ls hl => ?_)
  refine lv_iload_n hx hb dX2_behindOne_5 rfl (lv_at hl 0 rfl) ?_
  refine lv_if_lt (tgt := 60) hx hb dX2_behindOne_6 (by decide) (fun c_2 => ?_) (fun c_2 => ?_)
  · have hE := ip c_2 hE
    refine lv_aload_n hx hb dX2_behindOne_60 rfl (lv_at hl 1 rfl) ?_
    obtain ⟨r_3, h_3, hE⟩ := ob hE
    refine m_calli [] hC hP hS hl.1 (wX2_openNow k z  r_3 h_3) (cwV 0 hts lkX2_162 rfl rfl rfl cdX2_openNow ⟨Nat.le_of_ble_eq_true rfl, Nat.le_of_ble_eq_true rfl⟩) rfl rfl (lv_room (Nat.le_of_ble_eq_true rfl)) dX2_behindOne_61 (fun H locs hP hS => ?_)
    refine lv_istore_n (lv' := [(2, .int r_3), (1, .int r_1), (0, .ref (E.2.2.2.1 0))]) hx hb dX2_behindOne_64 rfl hl (Nat.le_of_ble_eq_true rfl) rfl (fun ls hl => ?_)
    refine lv_aload_n hx hb dX2_behindOne_65 rfl (lv_at hl 2 rfl) ?_
    refine lv_iload_n hx hb dX2_behindOne_66 rfl (lv_at hl 0 rfl) ?_
    obtain ⟨r_4, h_4, hE⟩ := ob hE
    refine m_calli [.int r_3] hC hP hS hl.1 (wX2_partOf k z r_3 r_4 h_4) (cwV 1 hts lkX2_203 rfl rfl rfl cdX2_partOf ⟨Nat.le_of_ble_eq_true rfl, Nat.le_of_ble_eq_true rfl⟩) rfl rfl (lv_room (Nat.le_of_ble_eq_true rfl)) dX2_behindOne_67 (fun H locs hP hS => ?_)
    refine lv_istore_n (lv' := [(3, .int r_4), (2, .int r_3), (1, .int r_1), (0, .ref (E.2.2.2.1 0))]) hx hb dX2_behindOne_70 rfl hl (Nat.le_of_ble_eq_true rfl) rfl (fun ls hl => ?_)
    refine lv_iload_n hx hb dX2_behindOne_71 rfl (lv_at hl 0 rfl) ?_
    refine lv_if_ge (tgt := 77) hx hb dX2_behindOne_72 (by decide) (fun c_5 => ?_) (fun c_5 => ?_)
    · have hE := ip c_5 hE
      refine lv_aload_n hx hb dX2_behindOne_77 rfl (lv_at hl 3 rfl) ?_
      refine lv_iconst (v := 1) hx hb dX2_behindOne_78 (by decide) ?_
      obtain ⟨r_6, h_6, hE⟩ := ob hE
      refine m_callv [.int (1 : Int32)] hC hP hS hl.1 (wX2_settle k z (1 : Int32) r_6 h_6) (cwV 1 hts lkX2_188 rfl rfl rfl cdX2_settle ⟨Nat.le_of_ble_eq_true rfl, Nat.le_of_ble_eq_true rfl⟩) rfl rfl (lv_room (Nat.le_of_ble_eq_true rfl)) dX2_behindOne_79 (fun H locs hP hS => ?_)
      refine lv_aload_n hx hb dX2_behindOne_82 rfl (lv_at hl 3 rfl) ?_
      obtain ⟨r_7, h_7, hE⟩ := ob hE
      refine m_callv [] hC hP hS hl.1 (wX2_nextToken k r_6  r_7 h_7) (cwV 0 hts lkX2_165 rfl rfl rfl cdX2_nextToken ⟨Nat.le_of_ble_eq_true rfl, Nat.le_of_ble_eq_true rfl⟩) rfl rfl (lv_room (Nat.le_of_ble_eq_true rfl)) dX2_behindOne_83 (fun H locs hP hS => ?_)
      refine lv_iload_n hx hb dX2_behindOne_86 rfl (lv_at hl 0 rfl) ?_
      refine lv_if_ne (tgt := 127) hx hb dX2_behindOne_87 (by decide) (fun c_8 => ?_) (fun c_8 => ?_)
      · have hE := iq c_8 hE
        refine lv_aload_n hx hb dX2_behindOne_127 rfl (lv_at hl 3 rfl) ?_
        refine gM_29 hC hP dX2_behindOne_128 ?_
        refine lv_aload_n hx hb dX2_behindOne_131 rfl (lv_at hl 3 rfl) ?_
        obtain ⟨r_9, h_9, hE⟩ := ob hE
        refine m_calli [] hC hP hS hl.1 (wX2_openAt k r_7  r_9 h_9) (cwV 0 hts lkX2_158 rfl rfl rfl cdX2_openAt ⟨Nat.le_of_ble_eq_true rfl, Nat.le_of_ble_eq_true rfl⟩) rfl rfl (lv_room (Nat.le_of_ble_eq_true rfl)) dX2_behindOne_132 (fun H locs hP hS => ?_)
        refine lv_iload_n hx hb dX2_behindOne_135 rfl (lv_at hl 0 rfl) ?_
        obtain ⟨c_10, hE⟩ := og hE
        obtain ⟨z_10, ez_10, hE⟩ := on hE
        refine tM_15 hC hP hS c_10 ez_10 dX2_behindOne_136 (fun H locs hP hS => ?_)
        refine lv_aload_n hx hb dX2_behindOne_137 rfl (lv_at hl 3 rfl) ?_
        refine lv_iconst (v := 0) hx hb dX2_behindOne_138 (by decide) ?_
        obtain ⟨z_11, ez_11, hE⟩ := on hE
        refine pM_191 hC hP hS ez_11 (by decide) (by decide) dX2_behindOne_139 (fun H locs hP hS => ?_)
        refine lv_iconst (v := 0) hx hb dX2_behindOne_142 (by decide) ?_
        obtain rfl := Option.some.inj hE
        exact m_iret hC hP hS dX2_behindOne_143
      · have hE := ip c_8 hE
        refine lv_aload_n hx hb dX2_behindOne_90 rfl (lv_at hl 3 rfl) ?_
        refine lv_dup hx hb dX2_behindOne_91 rfl ?_
        refine gM_155 hC hP dX2_behindOne_92 ?_
        refine lv_iconst (v := 1) hx hb dX2_behindOne_95 (by decide) ?_
        refine lv_isub hx hb dX2_behindOne_96 ?_
        obtain ⟨z_12, ez_12, hE⟩ := on hE
        refine pM_155 hC hP hS ez_12 dX2_behindOne_97 (fun H locs hP hS => ?_)
        refine lv_aload_n hx hb dX2_behindOne_100 rfl (lv_at hl 3 rfl) ?_
        refine lv_dup hx hb dX2_behindOne_101 rfl ?_
        refine gM_146 hC hP dX2_behindOne_102 ?_
        refine lv_iconst (v := 1) hx hb dX2_behindOne_105 (by decide) ?_
        refine lv_isub hx hb dX2_behindOne_106 ?_
        obtain ⟨z_13, ez_13, hE⟩ := on hE
        refine pM_146 hC hP hS ez_13 dX2_behindOne_107 (fun H locs hP hS => ?_)
        refine lv_iload_n hx hb dX2_behindOne_110 rfl (lv_at hl 1 rfl) ?_
        refine lv_bipush (v := 44) hx hb dX2_behindOne_111 (by decide) ?_
        refine lv_icmp_ne (tgt := 122) hx hb dX2_behindOne_113 (by decide) (fun c_14 => ?_) (fun c_14 => ?_)
        · have hE := iq c_14 hE
          exact wX2_behindOne_J122 k z_13  hC y hE H locs ls hP hS (lv_sub hl [3] rfl)
        · have hE := ip c_14 hE
          refine lv_aload_n hx hb dX2_behindOne_116 rfl (lv_at hl 3 rfl) ?_
          refine lv_iconst (v := 3) hx hb dX2_behindOne_117 (by decide) ?_
          refine lv_iconst (v := 0) hx hb dX2_behindOne_118 (by decide) ?_
          obtain ⟨r_16, h_16, hE⟩ := ob hE
          refine m_callv [.int (3 : Int32), .int (0 : Int32)] hC hP hS hl.1 (wX2_emit z_13 (3 : Int32) (0 : Int32) r_16 h_16) (cwV 2 hts lkX2_152 rfl rfl rfl cdX2_emit ⟨Nat.le_of_ble_eq_true rfl, Nat.le_of_ble_eq_true rfl⟩) rfl rfl (lv_room (Nat.le_of_ble_eq_true rfl)) dX2_behindOne_119 (fun H locs hP hS => ?_)
          exact wX2_behindOne_J122 k r_16  hC y hE H locs ls hP hS (lv_sub hl [3] rfl)
    · have hE := iq c_5 hE
      refine lv_iconst (v := -1) hx hb dX2_behindOne_75 (by decide) ?_
      obtain rfl := Option.some.inj hE
      exact m_iret hC hP hS dX2_behindOne_76
  · have hE := iq c_2 hE
    refine lv_aload_n hx hb dX2_behindOne_9 rfl (lv_at hl 1 rfl) ?_
    refine lv_iload_n hx hb dX2_behindOne_10 rfl (lv_at hl 0 rfl) ?_
    obtain ⟨r_17, h_17, hE⟩ := ob hE
    refine s_calli [.int r_1] hC.sC hl.1 (wX2_rank r_1 r_17 h_17) (va_cwS 1 hts lkX2_149 rfl rfl rfl cdX2_rank ⟨Nat.le_of_ble_eq_true rfl, Nat.le_of_ble_eq_true rfl⟩) rfl rfl (lv_room (Nat.le_of_ble_eq_true rfl)) ⟨Nat.zero_le _, Nat.zero_le _⟩ dX2_behindOne_11 ?_
    refine lv_iconst (v := 4) hx hb dX2_behindOne_14 (by decide) ?_
    refine lv_icmp_ne (tgt := 22) hx hb dX2_behindOne_15 (by decide) (fun c_18 => ?_) (fun c_18 => ?_)
    · have hE := iq c_18 hE
      refine lv_iload_n hx hb dX2_behindOne_22 rfl (lv_at hl 0 rfl) ?_
      obtain ⟨r_19, h_19, hE⟩ := ob hE
      refine s_calli [.int r_1] hC.sC hl.1 (wX2_rank r_1 r_19 h_19) (va_cwS 1 hts lkX2_149 rfl rfl rfl cdX2_rank ⟨Nat.le_of_ble_eq_true rfl, Nat.le_of_ble_eq_true rfl⟩) rfl rfl (lv_room (Nat.le_of_ble_eq_true rfl)) ⟨Nat.zero_le _, Nat.zero_le _⟩ dX2_behindOne_23 ?_
      exact wX2_behindOne_J26 k z r_1 r_19 hC y hE H locs ls hP hS (lv_sub hl [1, 0] rfl)
    · have hE := ip c_18 hE
      refine lv_iconst (v := 5) hx hb dX2_behindOne_18 (by decide) ?_
      refine lv_goto (tgt := 26) hx hb dX2_behindOne_19 (by decide) ?_
      exact wX2_behindOne_J26 k z r_1 (5 : Int32) hC y hE H locs ls hP hS (lv_sub hl [1, 0] rfl)
def fX2_nameOf (z : MS)  : Option Int32 := if (z.1 9) = (2 : Int32) then ((fX2_w4 (121 : Int32) (101 : Int32) (97 : Int32) (114 : Int32)).bind fun r_2 => if (lg_cmp (z.2.1 11) r_2) = 0 then (some (0 : Int32)) else ((fX2_w5 (112 : Int32) (108 : Int32) (97 : Int32) (99 : Int32) (101 : Int32)).bind fun r_4 => if (lg_cmp (z.2.1 11) r_4) = 0 then (some (1 : Int32)) else ((fX2_w4 (107 : Int32) (105 : Int32) (110 : Int32) (100 : Int32)).bind fun r_6 => if (lg_cmp (z.2.1 11) r_6) = 0 then (some (2 : Int32)) else ((fX2_w5 (112 : Int32) (97 : Int32) (105 : Int32) (110 : Int32) (116 : Int32)).bind fun r_8 => if (lg_cmp (z.2.1 11) r_8) = 0 then (some (3 : Int32)) else ((fX2_w5 (99 : Int32) (111 : Int32) (117 : Int32) (110 : Int32) (116 : Int32)).bind fun r_10 => if (lg_cmp (z.2.1 11) r_10) = 0 then (some (4 : Int32)) else ((fX2_w6 (115 : Int32) (116 : Int32) (114 : Int32) (105 : Int32) (100 : Int32) (101 : Int32)).bind fun r_12 => if (lg_cmp (z.2.1 11) r_12) = 0 then (some (5 : Int32)) else ((fX2_w4 (108 : Int32) (117 : Int32) (99 : Int32) (107 : Int32)).bind fun r_14 => if (lg_cmp (z.2.1 11) r_14) = 0 then (some (6 : Int32)) else ((fX2_w3 (119 : Int32) (104 : Int32) (111 : Int32)).bind fun r_16 => if (lg_cmp (z.2.1 11) r_16) = 0 then (some (7 : Int32)) else (some (-1 : Int32)))))))))) else (some (-1 : Int32))
set_option maxHeartbeats 1000000 in
theorem wX2_nameOf {l : Launch} {E : ME} (z : MS)  (y : Int32) (hE : fX2_nameOf z  = some y) : mM l yX2_nameOf (ws_ yX2_nameOf cX2_nameOf 1 (some .int)) rmX2_nameOf E z [] (some (.int y)) z := by
  refine m_met (by decide) rfl (Nat.le_of_ble_eq_true rfl) (fun p e s m args below meth c hC => ?_)
  intro H locs ls hP hS hl
  have hx := hC.1
  have hb := hC.2.1
  have hown := hC.2.2.2.2.2.1
  have hts := hC.2.2.2.2.2.2.1
  have hl : lv_has ls 1 [(0, .ref (E.2.2.2.1 0))] := hl
  unfold fX2_nameOf at hE
  refine lv_aload_n hx hb dX2_nameOf_0 rfl (lv_at hl 0 rfl) ?_
  refine gM_98 hC hP dX2_nameOf_1 ?_
  refine lv_iconst (v := 2) hx hb dX2_nameOf_4 (by decide) ?_
  refine lv_icmp_eq (tgt := 10) hx hb dX2_nameOf_5 (by decide) (fun c_1 => ?_) (fun c_1 => ?_)
  · have hE := ip c_1 hE
    refine lv_aload_n hx hb dX2_nameOf_10 rfl (lv_at hl 0 rfl) ?_
    refine gM_111 hC hP dX2_nameOf_11 ?_
    refine lv_bipush (v := 121) hx hb dX2_nameOf_14 (by decide) ?_
    refine lv_bipush (v := 101) hx hb dX2_nameOf_16 (by decide) ?_
    refine lv_bipush (v := 97) hx hb dX2_nameOf_18 (by decide) ?_
    refine lv_bipush (v := 114) hx hb dX2_nameOf_20 (by decide) ?_
    obtain ⟨r_2, h_2, hE⟩ := ob hE
    refine s_calll [.int (121 : Int32), .int (101 : Int32), .int (97 : Int32), .int (114 : Int32)] hC.sC hl.1 (wX2_w4 (121 : Int32) (101 : Int32) (97 : Int32) (114 : Int32) r_2 h_2) (va_cwS 4 hts lkX2_128 rfl rfl rfl cdX2_w4 ⟨Nat.le_of_ble_eq_true rfl, Nat.le_of_ble_eq_true rfl⟩) rfl rfl (lv_room (Nat.le_of_ble_eq_true rfl)) ⟨Nat.zero_le _, Nat.zero_le _⟩ dX2_nameOf_22 ?_
    refine W.lcmp hx hb dX2_nameOf_25 ?_
    refine lv_if_ne (tgt := 31) hx hb dX2_nameOf_26 (by decide) (fun c_3 => ?_) (fun c_3 => ?_)
    · have hE := iq c_3 hE
      refine lv_aload_n hx hb dX2_nameOf_31 rfl (lv_at hl 0 rfl) ?_
      refine gM_111 hC hP dX2_nameOf_32 ?_
      refine lv_bipush (v := 112) hx hb dX2_nameOf_35 (by decide) ?_
      refine lv_bipush (v := 108) hx hb dX2_nameOf_37 (by decide) ?_
      refine lv_bipush (v := 97) hx hb dX2_nameOf_39 (by decide) ?_
      refine lv_bipush (v := 99) hx hb dX2_nameOf_41 (by decide) ?_
      refine lv_bipush (v := 101) hx hb dX2_nameOf_43 (by decide) ?_
      obtain ⟨r_4, h_4, hE⟩ := ob hE
      refine s_calll [.int (112 : Int32), .int (108 : Int32), .int (97 : Int32), .int (99 : Int32), .int (101 : Int32)] hC.sC hl.1 (wX2_w5 (112 : Int32) (108 : Int32) (97 : Int32) (99 : Int32) (101 : Int32) r_4 h_4) (va_cwS 5 hts lkX2_132 rfl rfl rfl cdX2_w5 ⟨Nat.le_of_ble_eq_true rfl, Nat.le_of_ble_eq_true rfl⟩) rfl rfl (lv_room (Nat.le_of_ble_eq_true rfl)) ⟨Nat.zero_le _, Nat.zero_le _⟩ dX2_nameOf_45 ?_
      refine W.lcmp hx hb dX2_nameOf_48 ?_
      refine lv_if_ne (tgt := 54) hx hb dX2_nameOf_49 (by decide) (fun c_5 => ?_) (fun c_5 => ?_)
      · have hE := iq c_5 hE
        refine lv_aload_n hx hb dX2_nameOf_54 rfl (lv_at hl 0 rfl) ?_
        refine gM_111 hC hP dX2_nameOf_55 ?_
        refine lv_bipush (v := 107) hx hb dX2_nameOf_58 (by decide) ?_
        refine lv_bipush (v := 105) hx hb dX2_nameOf_60 (by decide) ?_
        refine lv_bipush (v := 110) hx hb dX2_nameOf_62 (by decide) ?_
        refine lv_bipush (v := 100) hx hb dX2_nameOf_64 (by decide) ?_
        obtain ⟨r_6, h_6, hE⟩ := ob hE
        refine s_calll [.int (107 : Int32), .int (105 : Int32), .int (110 : Int32), .int (100 : Int32)] hC.sC hl.1 (wX2_w4 (107 : Int32) (105 : Int32) (110 : Int32) (100 : Int32) r_6 h_6) (va_cwS 4 hts lkX2_128 rfl rfl rfl cdX2_w4 ⟨Nat.le_of_ble_eq_true rfl, Nat.le_of_ble_eq_true rfl⟩) rfl rfl (lv_room (Nat.le_of_ble_eq_true rfl)) ⟨Nat.zero_le _, Nat.zero_le _⟩ dX2_nameOf_66 ?_
        refine W.lcmp hx hb dX2_nameOf_69 ?_
        refine lv_if_ne (tgt := 75) hx hb dX2_nameOf_70 (by decide) (fun c_7 => ?_) (fun c_7 => ?_)
        · have hE := iq c_7 hE
          refine lv_aload_n hx hb dX2_nameOf_75 rfl (lv_at hl 0 rfl) ?_
          refine gM_111 hC hP dX2_nameOf_76 ?_
          refine lv_bipush (v := 112) hx hb dX2_nameOf_79 (by decide) ?_
          refine lv_bipush (v := 97) hx hb dX2_nameOf_81 (by decide) ?_
          refine lv_bipush (v := 105) hx hb dX2_nameOf_83 (by decide) ?_
          refine lv_bipush (v := 110) hx hb dX2_nameOf_85 (by decide) ?_
          refine lv_bipush (v := 116) hx hb dX2_nameOf_87 (by decide) ?_
          obtain ⟨r_8, h_8, hE⟩ := ob hE
          refine s_calll [.int (112 : Int32), .int (97 : Int32), .int (105 : Int32), .int (110 : Int32), .int (116 : Int32)] hC.sC hl.1 (wX2_w5 (112 : Int32) (97 : Int32) (105 : Int32) (110 : Int32) (116 : Int32) r_8 h_8) (va_cwS 5 hts lkX2_132 rfl rfl rfl cdX2_w5 ⟨Nat.le_of_ble_eq_true rfl, Nat.le_of_ble_eq_true rfl⟩) rfl rfl (lv_room (Nat.le_of_ble_eq_true rfl)) ⟨Nat.zero_le _, Nat.zero_le _⟩ dX2_nameOf_89 ?_
          refine W.lcmp hx hb dX2_nameOf_92 ?_
          refine lv_if_ne (tgt := 98) hx hb dX2_nameOf_93 (by decide) (fun c_9 => ?_) (fun c_9 => ?_)
          · have hE := iq c_9 hE
            refine lv_aload_n hx hb dX2_nameOf_98 rfl (lv_at hl 0 rfl) ?_
            refine gM_111 hC hP dX2_nameOf_99 ?_
            refine lv_bipush (v := 99) hx hb dX2_nameOf_102 (by decide) ?_
            refine lv_bipush (v := 111) hx hb dX2_nameOf_104 (by decide) ?_
            refine lv_bipush (v := 117) hx hb dX2_nameOf_106 (by decide) ?_
            refine lv_bipush (v := 110) hx hb dX2_nameOf_108 (by decide) ?_
            refine lv_bipush (v := 116) hx hb dX2_nameOf_110 (by decide) ?_
            obtain ⟨r_10, h_10, hE⟩ := ob hE
            refine s_calll [.int (99 : Int32), .int (111 : Int32), .int (117 : Int32), .int (110 : Int32), .int (116 : Int32)] hC.sC hl.1 (wX2_w5 (99 : Int32) (111 : Int32) (117 : Int32) (110 : Int32) (116 : Int32) r_10 h_10) (va_cwS 5 hts lkX2_132 rfl rfl rfl cdX2_w5 ⟨Nat.le_of_ble_eq_true rfl, Nat.le_of_ble_eq_true rfl⟩) rfl rfl (lv_room (Nat.le_of_ble_eq_true rfl)) ⟨Nat.zero_le _, Nat.zero_le _⟩ dX2_nameOf_112 ?_
            refine W.lcmp hx hb dX2_nameOf_115 ?_
            refine lv_if_ne (tgt := 121) hx hb dX2_nameOf_116 (by decide) (fun c_11 => ?_) (fun c_11 => ?_)
            · have hE := iq c_11 hE
              refine lv_aload_n hx hb dX2_nameOf_121 rfl (lv_at hl 0 rfl) ?_
              refine gM_111 hC hP dX2_nameOf_122 ?_
              refine lv_bipush (v := 115) hx hb dX2_nameOf_125 (by decide) ?_
              refine lv_bipush (v := 116) hx hb dX2_nameOf_127 (by decide) ?_
              refine lv_bipush (v := 114) hx hb dX2_nameOf_129 (by decide) ?_
              refine lv_bipush (v := 105) hx hb dX2_nameOf_131 (by decide) ?_
              refine lv_bipush (v := 100) hx hb dX2_nameOf_133 (by decide) ?_
              refine lv_bipush (v := 101) hx hb dX2_nameOf_135 (by decide) ?_
              obtain ⟨r_12, h_12, hE⟩ := ob hE
              refine s_calll [.int (115 : Int32), .int (116 : Int32), .int (114 : Int32), .int (105 : Int32), .int (100 : Int32), .int (101 : Int32)] hC.sC hl.1 (wX2_w6 (115 : Int32) (116 : Int32) (114 : Int32) (105 : Int32) (100 : Int32) (101 : Int32) r_12 h_12) (va_cwS 6 hts lkX2_142 rfl rfl rfl cdX2_w6 ⟨Nat.le_of_ble_eq_true rfl, Nat.le_of_ble_eq_true rfl⟩) rfl rfl (lv_room (Nat.le_of_ble_eq_true rfl)) ⟨Nat.zero_le _, Nat.zero_le _⟩ dX2_nameOf_137 ?_
              refine W.lcmp hx hb dX2_nameOf_140 ?_
              refine lv_if_ne (tgt := 146) hx hb dX2_nameOf_141 (by decide) (fun c_13 => ?_) (fun c_13 => ?_)
              · have hE := iq c_13 hE
                refine lv_aload_n hx hb dX2_nameOf_146 rfl (lv_at hl 0 rfl) ?_
                refine gM_111 hC hP dX2_nameOf_147 ?_
                refine lv_bipush (v := 108) hx hb dX2_nameOf_150 (by decide) ?_
                refine lv_bipush (v := 117) hx hb dX2_nameOf_152 (by decide) ?_
                refine lv_bipush (v := 99) hx hb dX2_nameOf_154 (by decide) ?_
                refine lv_bipush (v := 107) hx hb dX2_nameOf_156 (by decide) ?_
                obtain ⟨r_14, h_14, hE⟩ := ob hE
                refine s_calll [.int (108 : Int32), .int (117 : Int32), .int (99 : Int32), .int (107 : Int32)] hC.sC hl.1 (wX2_w4 (108 : Int32) (117 : Int32) (99 : Int32) (107 : Int32) r_14 h_14) (va_cwS 4 hts lkX2_128 rfl rfl rfl cdX2_w4 ⟨Nat.le_of_ble_eq_true rfl, Nat.le_of_ble_eq_true rfl⟩) rfl rfl (lv_room (Nat.le_of_ble_eq_true rfl)) ⟨Nat.zero_le _, Nat.zero_le _⟩ dX2_nameOf_158 ?_
                refine W.lcmp hx hb dX2_nameOf_161 ?_
                refine lv_if_ne (tgt := 170) hx hb dX2_nameOf_162 (by decide) (fun c_15 => ?_) (fun c_15 => ?_)
                · have hE := iq c_15 hE
                  refine lv_aload_n hx hb dX2_nameOf_170 rfl (lv_at hl 0 rfl) ?_
                  refine gM_111 hC hP dX2_nameOf_171 ?_
                  refine lv_bipush (v := 119) hx hb dX2_nameOf_174 (by decide) ?_
                  refine lv_bipush (v := 104) hx hb dX2_nameOf_176 (by decide) ?_
                  refine lv_bipush (v := 111) hx hb dX2_nameOf_178 (by decide) ?_
                  obtain ⟨r_16, h_16, hE⟩ := ob hE
                  refine s_calll [.int (119 : Int32), .int (104 : Int32), .int (111 : Int32)] hC.sC hl.1 (wX2_w3 (119 : Int32) (104 : Int32) (111 : Int32) r_16 h_16) (va_cwS 3 hts lkX2_124 rfl rfl rfl cdX2_w3 ⟨Nat.le_of_ble_eq_true rfl, Nat.le_of_ble_eq_true rfl⟩) rfl rfl (lv_room (Nat.le_of_ble_eq_true rfl)) ⟨Nat.zero_le _, Nat.zero_le _⟩ dX2_nameOf_180 ?_
                  refine W.lcmp hx hb dX2_nameOf_183 ?_
                  refine lv_if_ne (tgt := 192) hx hb dX2_nameOf_184 (by decide) (fun c_17 => ?_) (fun c_17 => ?_)
                  · have hE := iq c_17 hE
                    refine lv_iconst (v := -1) hx hb dX2_nameOf_192 (by decide) ?_
                    obtain rfl := Option.some.inj hE
                    exact m_iret hC hP hS dX2_nameOf_193
                  · have hE := ip c_17 hE
                    refine lv_bipush (v := 7) hx hb dX2_nameOf_187 (by decide) ?_
                    refine lv_goto (tgt := 193) hx hb dX2_nameOf_189 (by decide) ?_
                    obtain rfl := Option.some.inj hE
                    exact m_iret hC hP hS dX2_nameOf_193
                · have hE := ip c_15 hE
                  refine lv_bipush (v := 6) hx hb dX2_nameOf_165 (by decide) ?_
                  refine lv_goto (tgt := 193) hx hb dX2_nameOf_167 (by decide) ?_
                  obtain rfl := Option.some.inj hE
                  exact m_iret hC hP hS dX2_nameOf_193
              · have hE := ip c_13 hE
                refine lv_iconst (v := 5) hx hb dX2_nameOf_144 (by decide) ?_
                obtain rfl := Option.some.inj hE
                exact m_iret hC hP hS dX2_nameOf_145
            · have hE := ip c_11 hE
              refine lv_iconst (v := 4) hx hb dX2_nameOf_119 (by decide) ?_
              obtain rfl := Option.some.inj hE
              exact m_iret hC hP hS dX2_nameOf_120
          · have hE := ip c_9 hE
            refine lv_iconst (v := 3) hx hb dX2_nameOf_96 (by decide) ?_
            obtain rfl := Option.some.inj hE
            exact m_iret hC hP hS dX2_nameOf_97
        · have hE := ip c_7 hE
          refine lv_iconst (v := 2) hx hb dX2_nameOf_73 (by decide) ?_
          obtain rfl := Option.some.inj hE
          exact m_iret hC hP hS dX2_nameOf_74
      · have hE := ip c_5 hE
        refine lv_iconst (v := 1) hx hb dX2_nameOf_52 (by decide) ?_
        obtain rfl := Option.some.inj hE
        exact m_iret hC hP hS dX2_nameOf_53
    · have hE := ip c_3 hE
      refine lv_iconst (v := 0) hx hb dX2_nameOf_29 (by decide) ?_
      obtain rfl := Option.some.inj hE
      exact m_iret hC hP hS dX2_nameOf_30
  · have hE := iq c_1 hE
    refine lv_iconst (v := -1) hx hb dX2_nameOf_8 (by decide) ?_
    obtain rfl := Option.some.inj hE
    exact m_iret hC hP hS dX2_nameOf_9
def fX2_opened (k : Nat) (z : MS) (x1 : Int32) : Option (Int32 × MS) := if (z.1 17) = (8 : Int32) then (some ((3 : Int32), z)) else (nm (mI z 17 ((z.1 17) + (1 : Int32))) fun z_2 => if ib (z_2.1 16) 160 then none else (nm (mA z_2 15 (upd (z_2.2.2.1 15) (z_2.1 16).toNatClampNeg x1)) fun z_3 => nm (mI z_3 16 ((z_3.1 16) + (1 : Int32))) fun z_4 => (fX2_nextToken k z_4 ).bind fun r_5 => some ((0 : Int32), r_5)))
set_option maxHeartbeats 1000000 in
theorem wX2_opened {l : Launch} {E : ME} (k : Nat) (z : MS) (x1 : Int32) (y : Int32 × MS) (hE : fX2_opened k z x1 = some y) : mM l yX2_opened (ws_ yX2_opened cX2_opened 2 (some .int)) rmX2_opened E z [.int x1] (some (.int y.1)) y.2 := by
  refine m_met (by decide) rfl (Nat.le_of_ble_eq_true rfl) (fun p e s m args below meth c hC => ?_)
  intro H locs ls hP hS hl
  have hx := hC.1
  have hb := hC.2.1
  have hown := hC.2.2.2.2.2.1
  have hts := hC.2.2.2.2.2.2.1
  have hl : lv_has ls 2 [(0, .ref (E.2.2.2.1 0)), (1, .int x1)] := hl
  unfold fX2_opened at hE
  refine lv_aload_n hx hb dX2_opened_0 rfl (lv_at hl 0 rfl) ?_
  refine gM_155 hC hP dX2_opened_1 ?_
  refine lv_bipush (v := 8) hx hb dX2_opened_4 (by decide) ?_
  refine lv_icmp_ne (tgt := 11) hx hb dX2_opened_6 (by decide) (fun c_1 => ?_) (fun c_1 => ?_)
  · have hE := iq c_1 hE
    refine lv_aload_n hx hb dX2_opened_11 rfl (lv_at hl 0 rfl) ?_
    refine lv_dup hx hb dX2_opened_12 rfl ?_
    refine gM_155 hC hP dX2_opened_13 ?_
    refine lv_iconst (v := 1) hx hb dX2_opened_16 (by decide) ?_
    refine lv_iadd hx hb dX2_opened_17 ?_
    obtain ⟨z_2, ez_2, hE⟩ := on hE
    refine pM_155 hC hP hS ez_2 dX2_opened_18 (fun H locs hP hS => ?_)
    refine lv_aload_n hx hb dX2_opened_21 rfl (lv_at hl 0 rfl) ?_
    refine gM_29 hC hP dX2_opened_22 ?_
    refine lv_aload_n hx hb dX2_opened_25 rfl (lv_at hl 0 rfl) ?_
    refine gM_146 hC hP dX2_opened_26 ?_
    refine lv_iload_n hx hb dX2_opened_29 rfl (lv_at hl 1 rfl) ?_
    obtain ⟨c_3, hE⟩ := og hE
    obtain ⟨z_3, ez_3, hE⟩ := on hE
    refine tM_15 hC hP hS c_3 ez_3 dX2_opened_30 (fun H locs hP hS => ?_)
    refine lv_aload_n hx hb dX2_opened_31 rfl (lv_at hl 0 rfl) ?_
    refine lv_dup hx hb dX2_opened_32 rfl ?_
    refine gM_146 hC hP dX2_opened_33 ?_
    refine lv_iconst (v := 1) hx hb dX2_opened_36 (by decide) ?_
    refine lv_iadd hx hb dX2_opened_37 ?_
    obtain ⟨z_4, ez_4, hE⟩ := on hE
    refine pM_146 hC hP hS ez_4 dX2_opened_38 (fun H locs hP hS => ?_)
    refine lv_aload_n hx hb dX2_opened_41 rfl (lv_at hl 0 rfl) ?_
    obtain ⟨r_5, h_5, hE⟩ := ob hE
    refine m_callv [] hC hP hS hl.1 (wX2_nextToken k z_4  r_5 h_5) (cwV 0 hts lkX2_165 rfl rfl rfl cdX2_nextToken ⟨Nat.le_of_ble_eq_true rfl, Nat.le_of_ble_eq_true rfl⟩) rfl rfl (lv_room (Nat.le_of_ble_eq_true rfl)) dX2_opened_42 (fun H locs hP hS => ?_)
    refine lv_iconst (v := 0) hx hb dX2_opened_45 (by decide) ?_
    obtain rfl := Option.some.inj hE
    exact m_iret hC hP hS dX2_opened_46
  · have hE := ip c_1 hE
    refine lv_iconst (v := 3) hx hb dX2_opened_9 (by decide) ?_
    obtain rfl := Option.some.inj hE
    exact m_iret hC hP hS dX2_opened_10
def fX2_isAskAhead (k : Nat) (z : MS)  : Option Int32 := (fX2_openNow k z ).bind fun r_1 => if r_1 = (42 : Int32) then (if ib ((z.1 16) - (1 : Int32)) 160 then none else (if (40 : Int32) ≤ (z.2.2.1 15 ((z.1 16) - (1 : Int32)).toNatClampNeg) then (some (1 : Int32)) else (if ib ((z.1 16) - (1 : Int32)) 160 then none else ((fX2_rank (z.2.2.1 15 ((z.1 16) - (1 : Int32)).toNatClampNeg)).bind fun r_6 => (fX2_isIn r_6 (1 : Int32) (3 : Int32)).bind fun r_7 => if r_7 = 0 then (some (0 : Int32)) else (some (1 : Int32)))))) else (some (0 : Int32))
set_option maxHeartbeats 1000000 in
theorem wX2_isAskAhead {l : Launch} {E : ME} (k : Nat) (z : MS)  (y : Int32) (hE : fX2_isAskAhead k z  = some y) : mM l yX2_isAskAhead (ws_ yX2_isAskAhead cX2_isAskAhead 1 (some .boolean)) rmX2_isAskAhead E z [] (some (.int y)) z := by
  refine m_met (by decide) rfl (Nat.le_of_ble_eq_true rfl) (fun p e s m args below meth c hC => ?_)
  intro H locs ls hP hS hl
  have hx := hC.1
  have hb := hC.2.1
  have hown := hC.2.2.2.2.2.1
  have hts := hC.2.2.2.2.2.2.1
  have hl : lv_has ls 1 [(0, .ref (E.2.2.2.1 0))] := hl
  unfold fX2_isAskAhead at hE
  refine lv_aload_n hx hb dX2_isAskAhead_0 rfl (lv_at hl 0 rfl) ?_
  obtain ⟨r_1, h_1, hE⟩ := ob hE
  refine m_calli [] hC hP hS hl.1 (wX2_openNow k z  r_1 h_1) (cwV 0 hts lkX2_162 rfl rfl rfl cdX2_openNow ⟨Nat.le_of_ble_eq_true rfl, Nat.le_of_ble_eq_true rfl⟩) rfl rfl (lv_room (Nat.le_of_ble_eq_true rfl)) dX2_isAskAhead_1 (fun H locs hP hS => ?_)
  refine lv_bipush (v := 42) hx hb dX2_isAskAhead_4 (by decide) ?_
  refine lv_icmp_ne (tgt := 51) hx hb dX2_isAskAhead_6 (by decide) (fun c_2 => ?_) (fun c_2 => ?_)
  · have hE := iq c_2 hE
    refine lv_iconst (v := 0) hx hb dX2_isAskAhead_51 (by decide) ?_
    obtain rfl := Option.some.inj hE
    exact m_zret (v := (0 : Int32)) hC hP hS (by decide) dX2_isAskAhead_52
  · have hE := ip c_2 hE
    refine lv_aload_n hx hb dX2_isAskAhead_9 rfl (lv_at hl 0 rfl) ?_
    refine gM_29 hC hP dX2_isAskAhead_10 ?_
    refine lv_aload_n hx hb dX2_isAskAhead_13 rfl (lv_at hl 0 rfl) ?_
    refine gM_146 hC hP dX2_isAskAhead_14 ?_
    refine lv_iconst (v := 1) hx hb dX2_isAskAhead_17 (by decide) ?_
    refine lv_isub hx hb dX2_isAskAhead_18 ?_
    obtain ⟨c_3, hE⟩ := og hE
    refine aM_15 hC hP c_3 dX2_isAskAhead_19 ?_
    refine lv_bipush (v := 40) hx hb dX2_isAskAhead_20 (by decide) ?_
    refine lv_icmp_ge (tgt := 47) hx hb dX2_isAskAhead_22 (by decide) (fun c_4 => ?_) (fun c_4 => ?_)
    · have hE := ip c_4 hE
      refine lv_iconst (v := 1) hx hb dX2_isAskAhead_47 (by decide) ?_
      refine lv_goto (tgt := 52) hx hb dX2_isAskAhead_48 (by decide) ?_
      obtain rfl := Option.some.inj hE
      exact m_zret (v := (1 : Int32)) hC hP hS (by decide) dX2_isAskAhead_52
    · have hE := iq c_4 hE
      refine lv_aload_n hx hb dX2_isAskAhead_25 rfl (lv_at hl 0 rfl) ?_
      refine gM_29 hC hP dX2_isAskAhead_26 ?_
      refine lv_aload_n hx hb dX2_isAskAhead_29 rfl (lv_at hl 0 rfl) ?_
      refine gM_146 hC hP dX2_isAskAhead_30 ?_
      refine lv_iconst (v := 1) hx hb dX2_isAskAhead_33 (by decide) ?_
      refine lv_isub hx hb dX2_isAskAhead_34 ?_
      obtain ⟨c_5, hE⟩ := og hE
      refine aM_15 hC hP c_5 dX2_isAskAhead_35 ?_
      obtain ⟨r_6, h_6, hE⟩ := ob hE
      refine s_calli [.int (z.2.2.1 15 ((z.1 16) - (1 : Int32)).toNatClampNeg)] hC.sC hl.1 (wX2_rank (z.2.2.1 15 ((z.1 16) - (1 : Int32)).toNatClampNeg) r_6 h_6) (va_cwS 1 hts lkX2_149 rfl rfl rfl cdX2_rank ⟨Nat.le_of_ble_eq_true rfl, Nat.le_of_ble_eq_true rfl⟩) rfl rfl (lv_room (Nat.le_of_ble_eq_true rfl)) ⟨Nat.zero_le _, Nat.zero_le _⟩ dX2_isAskAhead_36 ?_
      refine lv_iconst (v := 1) hx hb dX2_isAskAhead_39 (by decide) ?_
      refine lv_iconst (v := 3) hx hb dX2_isAskAhead_40 (by decide) ?_
      obtain ⟨r_7, h_7, hE⟩ := ob hE
      refine s_calli [.int r_6, .int (1 : Int32), .int (3 : Int32)] hC.sC hl.1 (wX2_isIn r_6 (1 : Int32) (3 : Int32) r_7 h_7) (va_cwS 3 hts lkX2_69 rfl rfl rfl cdX2_isIn ⟨Nat.le_of_ble_eq_true rfl, Nat.le_of_ble_eq_true rfl⟩) rfl rfl (lv_room (Nat.le_of_ble_eq_true rfl)) ⟨Nat.zero_le _, Nat.zero_le _⟩ dX2_isAskAhead_41 ?_
      refine lv_if_eq (tgt := 51) hx hb dX2_isAskAhead_44 (by decide) (fun c_8 => ?_) (fun c_8 => ?_)
      · have hE := ip c_8 hE
        refine lv_iconst (v := 0) hx hb dX2_isAskAhead_51 (by decide) ?_
        obtain rfl := Option.some.inj hE
        exact m_zret (v := (0 : Int32)) hC hP hS (by decide) dX2_isAskAhead_52
      · have hE := iq c_8 hE
        refine lv_iconst (v := 1) hx hb dX2_isAskAhead_47 (by decide) ?_
        refine lv_goto (tgt := 52) hx hb dX2_isAskAhead_48 (by decide) ?_
        obtain rfl := Option.some.inj hE
        exact m_zret (v := (1 : Int32)) hC hP hS (by decide) dX2_isAskAhead_52
def fX2_beginOne_J81 (k : Nat) (z : MS) (t0 : Int32) (t1 : Int32) : Option (Int32 × MS) := (fX2_emit z t1 t0).bind fun r_7 => (fX2_nextToken k r_7 ).bind fun r_8 => (fX2_endOne k r_8 ).bind fun r_9 => some (r_9.1, r_9.2)
set_option maxHeartbeats 1000000 in
theorem wX2_beginOne_J81 {p : Program} {l : Launch} {e : Env} {s : State} {m : MethodId} {args : Array Value} {below : List Frame} {meth : Method} {c : Code} {E : ME} (k : Nat) (z : MS) (t0 : Int32) (t1 : Int32) (hC : mC E cX2_beginOne 2 (some .int) p s m args meth c) (y : Int32 × MS) (hE : fX2_beginOne_J81 k z t0 t1 = some y) : mW p l e rmX2_beginOne s m args below meth c E 2 (mQ E below args s (some (.int y.1)) y.2) 81 [(0, .ref (E.2.2.2.1 0))] [.int t0, .int t1, .ref (E.2.2.2.1 0)] z := by
  intro H locs ls hP hS hl
  have hx := hC.1
  have hb := hC.2.1
  have hown := hC.2.2.2.2.2.1
  have hts := hC.2.2.2.2.2.2.1
  unfold fX2_beginOne_J81 at hE
  obtain ⟨r_7, h_7, hE⟩ := ob hE
  refine m_callv [.int t1, .int t0] hC hP hS hl.1 (wX2_emit z t1 t0 r_7 h_7) (cwV 2 hts lkX2_152 rfl rfl rfl cdX2_emit ⟨Nat.le_of_ble_eq_true rfl, Nat.le_of_ble_eq_true rfl⟩) rfl rfl (lv_room (Nat.le_of_ble_eq_true rfl)) dX2_beginOne_81 (fun H locs hP hS => ?_)
  refine lv_aload_n hx hb dX2_beginOne_84 rfl (lv_at hl 0 rfl) ?_
  obtain ⟨r_8, h_8, hE⟩ := ob hE
  refine m_callv [] hC hP hS hl.1 (wX2_nextToken k r_7  r_8 h_8) (cwV 0 hts lkX2_165 rfl rfl rfl cdX2_nextToken ⟨Nat.le_of_ble_eq_true rfl, Nat.le_of_ble_eq_true rfl⟩) rfl rfl (lv_room (Nat.le_of_ble_eq_true rfl)) dX2_beginOne_85 (fun H locs hP hS => ?_)
  refine lv_aload_n hx hb dX2_beginOne_88 rfl (lv_at hl 0 rfl) ?_
  obtain ⟨r_9, h_9, hE⟩ := ob hE
  refine m_calli [] hC hP hS hl.1 (wX2_endOne k r_8  r_9 h_9) (cwV 0 hts lkX2_174 rfl rfl rfl cdX2_endOne ⟨Nat.le_of_ble_eq_true rfl, Nat.le_of_ble_eq_true rfl⟩) rfl rfl (lv_room (Nat.le_of_ble_eq_true rfl)) dX2_beginOne_89 (fun H locs hP hS => ?_)
  obtain rfl := Option.some.inj hE
  exact m_iret hC hP hS dX2_beginOne_92
def fX2_beginOne_J65 (k : Nat) (z : MS) (x1 : Int32) (t0 : Int32) : Option (Int32 × MS) := if (z.1 9) = (1 : Int32) then ((fX2_beginOne_J81 k z (z.1 10) t0)) else ((fX2_beginOne_J81 k z x1 t0))
set_option maxHeartbeats 1000000 in
theorem wX2_beginOne_J65 {p : Program} {l : Launch} {e : Env} {s : State} {m : MethodId} {args : Array Value} {below : List Frame} {meth : Method} {c : Code} {E : ME} (k : Nat) (z : MS) (x1 : Int32) (t0 : Int32) (hC : mC E cX2_beginOne 2 (some .int) p s m args meth c) (y : Int32 × MS) (hE : fX2_beginOne_J65 k z x1 t0 = some y) : mW p l e rmX2_beginOne s m args below meth c E 2 (mQ E below args s (some (.int y.1)) y.2) 65 [(0, .ref (E.2.2.2.1 0)), (1, .int x1)] [.int t0, .ref (E.2.2.2.1 0)] z := by
  intro H locs ls hP hS hl
  have hx := hC.1
  have hb := hC.2.1
  have hown := hC.2.2.2.2.2.1
  have hts := hC.2.2.2.2.2.2.1
  unfold fX2_beginOne_J65 at hE
  refine lv_aload_n hx hb dX2_beginOne_65 rfl (lv_at hl 0 rfl) ?_
  refine gM_98 hC hP dX2_beginOne_66 ?_
  refine lv_iconst (v := 1) hx hb dX2_beginOne_69 (by decide) ?_
  refine lv_icmp_ne (tgt := 80) hx hb dX2_beginOne_70 (by decide) (fun c_6 => ?_) (fun c_6 => ?_)
  · have hE := iq c_6 hE
    refine lv_iload_n hx hb dX2_beginOne_80 rfl (lv_at hl 1 rfl) ?_
    exact wX2_beginOne_J81 k z x1 t0 hC y hE H locs ls hP hS (lv_sub hl [0] rfl)
  · have hE := ip c_6 hE
    refine lv_aload_n hx hb dX2_beginOne_73 rfl (lv_at hl 0 rfl) ?_
    refine gM_104 hC hP dX2_beginOne_74 ?_
    refine lv_goto (tgt := 81) hx hb dX2_beginOne_77 (by decide) ?_
    exact wX2_beginOne_J81 k z (z.1 10) t0 hC y hE H locs ls hP hS (lv_sub hl [0] rfl)
def fX2_beginOne_J51 (k : Nat) (z : MS) (x1 : Int32) : Option (Int32 × MS) := if (z.1 9) = (1 : Int32) then ((fX2_beginOne_J65 k z x1 (0 : Int32))) else ((fX2_beginOne_J65 k z x1 (1 : Int32)))
set_option maxHeartbeats 1000000 in
theorem wX2_beginOne_J51 {p : Program} {l : Launch} {e : Env} {s : State} {m : MethodId} {args : Array Value} {below : List Frame} {meth : Method} {c : Code} {E : ME} (k : Nat) (z : MS) (x1 : Int32) (hC : mC E cX2_beginOne 2 (some .int) p s m args meth c) (y : Int32 × MS) (hE : fX2_beginOne_J51 k z x1 = some y) : mW p l e rmX2_beginOne s m args below meth c E 2 (mQ E below args s (some (.int y.1)) y.2) 51 [(0, .ref (E.2.2.2.1 0)), (1, .int x1)] [] z := by
  intro H locs ls hP hS hl
  have hx := hC.1
  have hb := hC.2.1
  have hown := hC.2.2.2.2.2.1
  have hts := hC.2.2.2.2.2.2.1
  unfold fX2_beginOne_J51 at hE
  refine lv_aload_n hx hb dX2_beginOne_51 rfl (lv_at hl 0 rfl) ?_
  refine lv_aload_n hx hb dX2_beginOne_52 rfl (lv_at hl 0 rfl) ?_
  refine gM_98 hC hP dX2_beginOne_53 ?_
  refine lv_iconst (v := 1) hx hb dX2_beginOne_56 (by decide) ?_
  refine lv_icmp_ne (tgt := 64) hx hb dX2_beginOne_57 (by decide) (fun c_5 => ?_) (fun c_5 => ?_)
  · have hE := iq c_5 hE
    refine lv_iconst (v := 1) hx hb dX2_beginOne_64 (by decide) ?_
    exact wX2_beginOne_J65 k z x1 (1 : Int32) hC y hE H locs ls hP hS hl
  · have hE := ip c_5 hE
    refine lv_iconst (v := 0) hx hb dX2_beginOne_60 (by decide) ?_
    refine lv_goto (tgt := 65) hx hb dX2_beginOne_61 (by decide) ?_
    exact wX2_beginOne_J65 k z x1 (0 : Int32) hC y hE H locs ls hP hS hl
def fX2_beginOne_J39 (k : Nat) (z : MS) (x1 : Int32) : Option (Int32 × MS) := if (z.1 9) = (1 : Int32) then ((fX2_beginOne_J51 k z x1)) else (if x1 < 0 then (if (z.1 9) = (40 : Int32) then ((fX2_opened k z (40 : Int32)).bind fun r_32 => some (r_32.1, r_32.2)) else (if (z.1 9) = (45 : Int32) then ((fX2_opened k z (5 : Int32)).bind fun r_31 => some (r_31.1, r_31.2)) else ((fX2_w5 (114 : Int32) (111 : Int32) (117 : Int32) (110 : Int32) (100 : Int32)).bind fun r_13 => (fX2_isWord z r_13).bind fun r_14 => if r_14 = 0 then ((fX2_w5 (107 : Int32) (105 : Int32) (110 : Int32) (100 : Int32) (115 : Int32)).bind fun r_16 => (fX2_isWord z r_16).bind fun r_17 => if r_17 = 0 then ((fX2_w2 (105 : Int32) (102 : Int32)).bind fun r_19 => (fX2_isWord z r_19).bind fun r_20 => if r_20 = 0 then ((fX2_w3 (110 : Int32) (111 : Int32) (116 : Int32)).bind fun r_22 => (fX2_isWord z r_22).bind fun r_23 => if r_23 = 0 then (some ((1 : Int32), z)) else ((fX2_isAskAhead k z ).bind fun r_25 => if r_25 = 0 then (some ((1 : Int32), z)) else ((fX2_opened k z (20 : Int32)).bind fun r_27 => some (r_27.1, r_27.2)))) else ((fX2_opened k z (42 : Int32)).bind fun r_28 => some (r_28.1, r_28.2))) else ((fX2_opened k z (2 : Int32)).bind fun r_29 => some (r_29.1, r_29.2))) else ((fX2_opened k z (41 : Int32)).bind fun r_30 => some (r_30.1, r_30.2))))) else ((fX2_beginOne_J51 k z x1)))
set_option maxHeartbeats 1000000 in
theorem wX2_beginOne_J39 {p : Program} {l : Launch} {e : Env} {s : State} {m : MethodId} {args : Array Value} {below : List Frame} {meth : Method} {c : Code} {E : ME} (k : Nat) (z : MS) (x1 : Int32) (hC : mC E cX2_beginOne 2 (some .int) p s m args meth c) (y : Int32 × MS) (hE : fX2_beginOne_J39 k z x1 = some y) : mW p l e rmX2_beginOne s m args below meth c E 2 (mQ E below args s (some (.int y.1)) y.2) 39 [(0, .ref (E.2.2.2.1 0)), (1, .int x1)] [] z := by
  intro H locs ls hP hS hl
  have hx := hC.1
  have hb := hC.2.1
  have hown := hC.2.2.2.2.2.1
  have hts := hC.2.2.2.2.2.2.1
  unfold fX2_beginOne_J39 at hE
  refine lv_aload_n hx hb dX2_beginOne_39 rfl (lv_at hl 0 rfl) ?_
  refine gM_98 hC hP dX2_beginOne_40 ?_
  refine lv_iconst (v := 1) hx hb dX2_beginOne_43 (by decide) ?_
  refine lv_icmp_eq (tgt := 51) hx hb dX2_beginOne_44 (by decide) (fun c_4 => ?_) (fun c_4 => ?_)
  · have hE := ip c_4 hE
    exact wX2_beginOne_J51 k z x1 hC y hE H locs ls hP hS hl
  · have hE := iq c_4 hE
    refine lv_iload_n hx hb dX2_beginOne_47 rfl (lv_at hl 1 rfl) ?_
    refine lv_if_lt (tgt := 93) hx hb dX2_beginOne_48 (by decide) (fun c_10 => ?_) (fun c_10 => ?_)
    · have hE := ip c_10 hE
      refine lv_aload_n hx hb dX2_beginOne_93 rfl (lv_at hl 0 rfl) ?_
      refine gM_98 hC hP dX2_beginOne_94 ?_
      refine lv_bipush (v := 40) hx hb dX2_beginOne_97 (by decide) ?_
      refine lv_icmp_ne (tgt := 109) hx hb dX2_beginOne_99 (by decide) (fun c_11 => ?_) (fun c_11 => ?_)
      · have hE := iq c_11 hE
        refine lv_aload_n hx hb dX2_beginOne_109 rfl (lv_at hl 0 rfl) ?_
        refine gM_98 hC hP dX2_beginOne_110 ?_
        refine lv_bipush (v := 45) hx hb dX2_beginOne_113 (by decide) ?_
        refine lv_icmp_ne (tgt := 124) hx hb dX2_beginOne_115 (by decide) (fun c_12 => ?_) (fun c_12 => ?_)
        · have hE := iq c_12 hE
          refine lv_aload_n hx hb dX2_beginOne_124 rfl (lv_at hl 0 rfl) ?_
          refine lv_bipush (v := 114) hx hb dX2_beginOne_125 (by decide) ?_
          refine lv_bipush (v := 111) hx hb dX2_beginOne_127 (by decide) ?_
          refine lv_bipush (v := 117) hx hb dX2_beginOne_129 (by decide) ?_
          refine lv_bipush (v := 110) hx hb dX2_beginOne_131 (by decide) ?_
          refine lv_bipush (v := 100) hx hb dX2_beginOne_133 (by decide) ?_
          obtain ⟨r_13, h_13, hE⟩ := ob hE
          refine s_calll [.int (114 : Int32), .int (111 : Int32), .int (117 : Int32), .int (110 : Int32), .int (100 : Int32)] hC.sC hl.1 (wX2_w5 (114 : Int32) (111 : Int32) (117 : Int32) (110 : Int32) (100 : Int32) r_13 h_13) (va_cwS 5 hts lkX2_132 rfl rfl rfl cdX2_w5 ⟨Nat.le_of_ble_eq_true rfl, Nat.le_of_ble_eq_true rfl⟩) rfl rfl (lv_room (Nat.le_of_ble_eq_true rfl)) ⟨Nat.zero_le _, Nat.zero_le _⟩ dX2_beginOne_135 ?_
          obtain ⟨r_14, h_14, hE⟩ := ob hE
          refine m_calli [.long r_13] hC hP hS hl.1 (wX2_isWord z r_13 r_14 h_14) (cwV 1 hts lkX2_180 rfl rfl rfl cdX2_isWord ⟨Nat.le_of_ble_eq_true rfl, Nat.le_of_ble_eq_true rfl⟩) rfl rfl (lv_room (Nat.le_of_ble_eq_true rfl)) dX2_beginOne_138 (fun H locs hP hS => ?_)
          refine lv_if_eq (tgt := 151) hx hb dX2_beginOne_141 (by decide) (fun c_15 => ?_) (fun c_15 => ?_)
          · have hE := ip c_15 hE
            refine lv_aload_n hx hb dX2_beginOne_151 rfl (lv_at hl 0 rfl) ?_
            refine lv_bipush (v := 107) hx hb dX2_beginOne_152 (by decide) ?_
            refine lv_bipush (v := 105) hx hb dX2_beginOne_154 (by decide) ?_
            refine lv_bipush (v := 110) hx hb dX2_beginOne_156 (by decide) ?_
            refine lv_bipush (v := 100) hx hb dX2_beginOne_158 (by decide) ?_
            refine lv_bipush (v := 115) hx hb dX2_beginOne_160 (by decide) ?_
            obtain ⟨r_16, h_16, hE⟩ := ob hE
            refine s_calll [.int (107 : Int32), .int (105 : Int32), .int (110 : Int32), .int (100 : Int32), .int (115 : Int32)] hC.sC hl.1 (wX2_w5 (107 : Int32) (105 : Int32) (110 : Int32) (100 : Int32) (115 : Int32) r_16 h_16) (va_cwS 5 hts lkX2_132 rfl rfl rfl cdX2_w5 ⟨Nat.le_of_ble_eq_true rfl, Nat.le_of_ble_eq_true rfl⟩) rfl rfl (lv_room (Nat.le_of_ble_eq_true rfl)) ⟨Nat.zero_le _, Nat.zero_le _⟩ dX2_beginOne_162 ?_
            obtain ⟨r_17, h_17, hE⟩ := ob hE
            refine m_calli [.long r_16] hC hP hS hl.1 (wX2_isWord z r_16 r_17 h_17) (cwV 1 hts lkX2_180 rfl rfl rfl cdX2_isWord ⟨Nat.le_of_ble_eq_true rfl, Nat.le_of_ble_eq_true rfl⟩) rfl rfl (lv_room (Nat.le_of_ble_eq_true rfl)) dX2_beginOne_165 (fun H locs hP hS => ?_)
            refine lv_if_eq (tgt := 177) hx hb dX2_beginOne_168 (by decide) (fun c_18 => ?_) (fun c_18 => ?_)
            · have hE := ip c_18 hE
              refine lv_aload_n hx hb dX2_beginOne_177 rfl (lv_at hl 0 rfl) ?_
              refine lv_bipush (v := 105) hx hb dX2_beginOne_178 (by decide) ?_
              refine lv_bipush (v := 102) hx hb dX2_beginOne_180 (by decide) ?_
              obtain ⟨r_19, h_19, hE⟩ := ob hE
              refine s_calll [.int (105 : Int32), .int (102 : Int32)] hC.sC hl.1 (wX2_w2 (105 : Int32) (102 : Int32) r_19 h_19) (va_cwS 2 hts lkX2_120 rfl rfl rfl cdX2_w2 ⟨Nat.le_of_ble_eq_true rfl, Nat.le_of_ble_eq_true rfl⟩) rfl rfl (lv_room (Nat.le_of_ble_eq_true rfl)) ⟨Nat.zero_le _, Nat.zero_le _⟩ dX2_beginOne_182 ?_
              obtain ⟨r_20, h_20, hE⟩ := ob hE
              refine m_calli [.long r_19] hC hP hS hl.1 (wX2_isWord z r_19 r_20 h_20) (cwV 1 hts lkX2_180 rfl rfl rfl cdX2_isWord ⟨Nat.le_of_ble_eq_true rfl, Nat.le_of_ble_eq_true rfl⟩) rfl rfl (lv_room (Nat.le_of_ble_eq_true rfl)) dX2_beginOne_185 (fun H locs hP hS => ?_)
              refine lv_if_eq (tgt := 198) hx hb dX2_beginOne_188 (by decide) (fun c_21 => ?_) (fun c_21 => ?_)
              · have hE := ip c_21 hE
                refine lv_aload_n hx hb dX2_beginOne_198 rfl (lv_at hl 0 rfl) ?_
                refine lv_bipush (v := 110) hx hb dX2_beginOne_199 (by decide) ?_
                refine lv_bipush (v := 111) hx hb dX2_beginOne_201 (by decide) ?_
                refine lv_bipush (v := 116) hx hb dX2_beginOne_203 (by decide) ?_
                obtain ⟨r_22, h_22, hE⟩ := ob hE
                refine s_calll [.int (110 : Int32), .int (111 : Int32), .int (116 : Int32)] hC.sC hl.1 (wX2_w3 (110 : Int32) (111 : Int32) (116 : Int32) r_22 h_22) (va_cwS 3 hts lkX2_124 rfl rfl rfl cdX2_w3 ⟨Nat.le_of_ble_eq_true rfl, Nat.le_of_ble_eq_true rfl⟩) rfl rfl (lv_room (Nat.le_of_ble_eq_true rfl)) ⟨Nat.zero_le _, Nat.zero_le _⟩ dX2_beginOne_205 ?_
                obtain ⟨r_23, h_23, hE⟩ := ob hE
                refine m_calli [.long r_22] hC hP hS hl.1 (wX2_isWord z r_22 r_23 h_23) (cwV 1 hts lkX2_180 rfl rfl rfl cdX2_isWord ⟨Nat.le_of_ble_eq_true rfl, Nat.le_of_ble_eq_true rfl⟩) rfl rfl (lv_room (Nat.le_of_ble_eq_true rfl)) dX2_beginOne_208 (fun H locs hP hS => ?_)
                refine lv_if_eq (tgt := 230) hx hb dX2_beginOne_211 (by decide) (fun c_24 => ?_) (fun c_24 => ?_)
                · have hE := ip c_24 hE
                  refine lv_iconst (v := 1) hx hb dX2_beginOne_230 (by decide) ?_
                  obtain rfl := Option.some.inj hE
                  exact m_iret hC hP hS dX2_beginOne_231
                · have hE := iq c_24 hE
                  refine lv_aload_n hx hb dX2_beginOne_214 rfl (lv_at hl 0 rfl) ?_
                  obtain ⟨r_25, h_25, hE⟩ := ob hE
                  refine m_calli [] hC hP hS hl.1 (wX2_isAskAhead k z  r_25 h_25) (cwV 0 hts lkX2_184 rfl rfl rfl cdX2_isAskAhead ⟨Nat.le_of_ble_eq_true rfl, Nat.le_of_ble_eq_true rfl⟩) rfl rfl (lv_room (Nat.le_of_ble_eq_true rfl)) dX2_beginOne_215 (fun H locs hP hS => ?_)
                  refine lv_if_eq (tgt := 230) hx hb dX2_beginOne_218 (by decide) (fun c_26 => ?_) (fun c_26 => ?_)
                  · have hE := ip c_26 hE
                    refine lv_iconst (v := 1) hx hb dX2_beginOne_230 (by decide) ?_
                    obtain rfl := Option.some.inj hE
                    exact m_iret hC hP hS dX2_beginOne_231
                  · have hE := iq c_26 hE
                    refine lv_aload_n hx hb dX2_beginOne_221 rfl (lv_at hl 0 rfl) ?_
                    refine lv_bipush (v := 20) hx hb dX2_beginOne_222 (by decide) ?_
                    obtain ⟨r_27, h_27, hE⟩ := ob hE
                    refine m_calli [.int (20 : Int32)] hC hP hS hl.1 (wX2_opened k z (20 : Int32) r_27 h_27) (cwV 1 hts lkX2_177 rfl rfl rfl cdX2_opened ⟨Nat.le_of_ble_eq_true rfl, Nat.le_of_ble_eq_true rfl⟩) rfl rfl (lv_room (Nat.le_of_ble_eq_true rfl)) dX2_beginOne_224 (fun H locs hP hS => ?_)
                    refine lv_goto (tgt := 231) hx hb dX2_beginOne_227 (by decide) ?_
                    obtain rfl := Option.some.inj hE
                    exact m_iret hC hP hS dX2_beginOne_231
              · have hE := iq c_21 hE
                refine lv_aload_n hx hb dX2_beginOne_191 rfl (lv_at hl 0 rfl) ?_
                refine lv_bipush (v := 42) hx hb dX2_beginOne_192 (by decide) ?_
                obtain ⟨r_28, h_28, hE⟩ := ob hE
                refine m_calli [.int (42 : Int32)] hC hP hS hl.1 (wX2_opened k z (42 : Int32) r_28 h_28) (cwV 1 hts lkX2_177 rfl rfl rfl cdX2_opened ⟨Nat.le_of_ble_eq_true rfl, Nat.le_of_ble_eq_true rfl⟩) rfl rfl (lv_room (Nat.le_of_ble_eq_true rfl)) dX2_beginOne_194 (fun H locs hP hS => ?_)
                obtain rfl := Option.some.inj hE
                exact m_iret hC hP hS dX2_beginOne_197
            · have hE := iq c_18 hE
              refine lv_aload_n hx hb dX2_beginOne_171 rfl (lv_at hl 0 rfl) ?_
              refine lv_iconst (v := 2) hx hb dX2_beginOne_172 (by decide) ?_
              obtain ⟨r_29, h_29, hE⟩ := ob hE
              refine m_calli [.int (2 : Int32)] hC hP hS hl.1 (wX2_opened k z (2 : Int32) r_29 h_29) (cwV 1 hts lkX2_177 rfl rfl rfl cdX2_opened ⟨Nat.le_of_ble_eq_true rfl, Nat.le_of_ble_eq_true rfl⟩) rfl rfl (lv_room (Nat.le_of_ble_eq_true rfl)) dX2_beginOne_173 (fun H locs hP hS => ?_)
              obtain rfl := Option.some.inj hE
              exact m_iret hC hP hS dX2_beginOne_176
          · have hE := iq c_15 hE
            refine lv_aload_n hx hb dX2_beginOne_144 rfl (lv_at hl 0 rfl) ?_
            refine lv_bipush (v := 41) hx hb dX2_beginOne_145 (by decide) ?_
            obtain ⟨r_30, h_30, hE⟩ := ob hE
            refine m_calli [.int (41 : Int32)] hC hP hS hl.1 (wX2_opened k z (41 : Int32) r_30 h_30) (cwV 1 hts lkX2_177 rfl rfl rfl cdX2_opened ⟨Nat.le_of_ble_eq_true rfl, Nat.le_of_ble_eq_true rfl⟩) rfl rfl (lv_room (Nat.le_of_ble_eq_true rfl)) dX2_beginOne_147 (fun H locs hP hS => ?_)
            obtain rfl := Option.some.inj hE
            exact m_iret hC hP hS dX2_beginOne_150
        · have hE := ip c_12 hE
          refine lv_aload_n hx hb dX2_beginOne_118 rfl (lv_at hl 0 rfl) ?_
          refine lv_iconst (v := 5) hx hb dX2_beginOne_119 (by decide) ?_
          obtain ⟨r_31, h_31, hE⟩ := ob hE
          refine m_calli [.int (5 : Int32)] hC hP hS hl.1 (wX2_opened k z (5 : Int32) r_31 h_31) (cwV 1 hts lkX2_177 rfl rfl rfl cdX2_opened ⟨Nat.le_of_ble_eq_true rfl, Nat.le_of_ble_eq_true rfl⟩) rfl rfl (lv_room (Nat.le_of_ble_eq_true rfl)) dX2_beginOne_120 (fun H locs hP hS => ?_)
          obtain rfl := Option.some.inj hE
          exact m_iret hC hP hS dX2_beginOne_123
      · have hE := ip c_11 hE
        refine lv_aload_n hx hb dX2_beginOne_102 rfl (lv_at hl 0 rfl) ?_
        refine lv_bipush (v := 40) hx hb dX2_beginOne_103 (by decide) ?_
        obtain ⟨r_32, h_32, hE⟩ := ob hE
        refine m_calli [.int (40 : Int32)] hC hP hS hl.1 (wX2_opened k z (40 : Int32) r_32 h_32) (cwV 1 hts lkX2_177 rfl rfl rfl cdX2_opened ⟨Nat.le_of_ble_eq_true rfl, Nat.le_of_ble_eq_true rfl⟩) rfl rfl (lv_room (Nat.le_of_ble_eq_true rfl)) dX2_beginOne_105 (fun H locs hP hS => ?_)
        obtain rfl := Option.some.inj hE
        exact m_iret hC hP hS dX2_beginOne_108
    · have hE := iq c_10 hE
      exact wX2_beginOne_J51 k z x1 hC y hE H locs ls hP hS hl
def fX2_beginOne_J20 (k : Nat) (z : MS)  : Option (Int32 × MS) := (fX2_nameOf z ).bind fun r_2 => if r_2 ≤ (3 : Int32) then ((fX2_beginOne_J39 k z r_2)) else (if (z.1 14) = 0 then ((fX2_beginOne_J39 k z r_2)) else (some ((5 : Int32), z)))
set_option maxHeartbeats 1000000 in
theorem wX2_beginOne_J20 {p : Program} {l : Launch} {e : Env} {s : State} {m : MethodId} {args : Array Value} {below : List Frame} {meth : Method} {c : Code} {E : ME} (k : Nat) (z : MS)  (hC : mC E cX2_beginOne 2 (some .int) p s m args meth c) (y : Int32 × MS) (hE : fX2_beginOne_J20 k z  = some y) : mW p l e rmX2_beginOne s m args below meth c E 2 (mQ E below args s (some (.int y.1)) y.2) 20 [(0, .ref (E.2.2.2.1 0))] [] z := by
  intro H locs ls hP hS hl
  have hx := hC.1
  have hb := hC.2.1
  have hown := hC.2.2.2.2.2.1
  have hts := hC.2.2.2.2.2.2.1
  unfold fX2_beginOne_J20 at hE
  refine lv_aload_n hx hb dX2_beginOne_20 rfl (lv_at hl 0 rfl) ?_
  obtain ⟨r_2, h_2, hE⟩ := ob hE
  refine m_calli [] hC hP hS hl.1 (wX2_nameOf z  r_2 h_2) (cwV 0 hts lkX2_168 rfl rfl rfl cdX2_nameOf ⟨Nat.le_of_ble_eq_true rfl, Nat.le_of_ble_eq_true rfl⟩) rfl rfl (lv_room (Nat.le_of_ble_eq_true rfl)) dX2_beginOne_21 (fun H locs hP hS => ?_)
  refine lv_istore_n (lv' := [(1, .int r_2), (0, .ref (E.2.2.2.1 0))]) hx hb dX2_beginOne_24 rfl hl (Nat.le_of_ble_eq_true rfl) rfl (fun ls hl => ?_)
  refine lv_iload_n hx hb dX2_beginOne_25 rfl (lv_at hl 0 rfl) ?_
  refine lv_iconst (v := 3) hx hb dX2_beginOne_26 (by decide) ?_
  refine lv_icmp_le (tgt := 39) hx hb dX2_beginOne_27 (by decide) (fun c_3 => ?_) (fun c_3 => ?_)
  · have hE := ip c_3 hE
    exact wX2_beginOne_J39 k z r_2 hC y hE H locs ls hP hS (lv_sub hl [1, 0] rfl)
  · have hE := iq c_3 hE
    refine lv_aload_n hx hb dX2_beginOne_30 rfl (lv_at hl 1 rfl) ?_
    refine gM_171 hC hP dX2_beginOne_31 ?_
    refine lv_if_eq (tgt := 39) hx hb dX2_beginOne_34 (by decide) (fun c_33 => ?_) (fun c_33 => ?_)
    · have hE := ip c_33 hE
      exact wX2_beginOne_J39 k z r_2 hC y hE H locs ls hP hS (lv_sub hl [1, 0] rfl)
    · have hE := iq c_33 hE
      refine lv_iconst (v := 5) hx hb dX2_beginOne_37 (by decide) ?_
      obtain rfl := Option.some.inj hE
      exact m_iret hC hP hS dX2_beginOne_38
def fX2_beginOne (k : Nat) (z : MS)  : Option (Int32 × MS) := if (z.1 9) = (1 : Int32) then (if (z.1 10) ≤ (9999 : Int32) then ((fX2_beginOne_J20 k z )) else (some ((2 : Int32), z))) else ((fX2_beginOne_J20 k z ))
set_option maxHeartbeats 1000000 in
theorem wX2_beginOne {l : Launch} {E : ME} (k : Nat) (z : MS)  (y : Int32 × MS) (hE : fX2_beginOne k z  = some y) : mM l yX2_beginOne (ws_ yX2_beginOne cX2_beginOne 2 (some .int)) rmX2_beginOne E z [] (some (.int y.1)) y.2 := by
  refine m_met (by decide) rfl (Nat.le_of_ble_eq_true rfl) (fun p e s m args below meth c hC => ?_)
  intro H locs ls hP hS hl
  have hx := hC.1
  have hb := hC.2.1
  have hown := hC.2.2.2.2.2.1
  have hts := hC.2.2.2.2.2.2.1
  have hl : lv_has ls 2 [(0, .ref (E.2.2.2.1 0))] := hl
  unfold fX2_beginOne at hE
  refine lv_aload_n hx hb dX2_beginOne_0 rfl (lv_at hl 0 rfl) ?_
  refine gM_98 hC hP dX2_beginOne_1 ?_
  refine lv_iconst (v := 1) hx hb dX2_beginOne_4 (by decide) ?_
  refine lv_icmp_ne (tgt := 20) hx hb dX2_beginOne_5 (by decide) (fun c_1 => ?_) (fun c_1 => ?_)
  · have hE := iq c_1 hE
    exact wX2_beginOne_J20 k z  hC y hE H locs ls hP hS hl
  · have hE := ip c_1 hE
    refine lv_aload_n hx hb dX2_beginOne_8 rfl (lv_at hl 0 rfl) ?_
    refine gM_104 hC hP dX2_beginOne_9 ?_
    refine lv_sipush (v := 9999) hx hb dX2_beginOne_12 (by decide) ?_
    refine lv_icmp_le (tgt := 20) hx hb dX2_beginOne_15 (by decide) (fun c_34 => ?_) (fun c_34 => ?_)
    · have hE := ip c_34 hE
      exact wX2_beginOne_J20 k z  hC y hE H locs ls hP hS hl
    · have hE := iq c_34 hE
      refine lv_iconst (v := 2) hx hb dX2_beginOne_18 (by decide) ?_
      obtain rfl := Option.some.inj hE
      exact m_iret hC hP hS dX2_beginOne_19
def fX2_summed_J33 (k : Nat) (z : MS) (t0 : Int32) : Option (MS ⊕ ((Int32 × MS) ⊕ MS)) := if t0 ≤ 0 then (if t0 = 0 then (some (.inl z)) else (some (.inr (.inr z)))) else (some (.inr (.inl (t0, z))))
set_option maxHeartbeats 1000000 in
theorem wX2_summed_J33 {p : Program} {l : Launch} {e : Env} {s : State} {m : MethodId} {args : Array Value} {below : List Frame} {meth : Method} {c : Code} {E : ME} {Q : State → Prop} (k : Nat) (z : MS) (t0 : Int32) (hC : mC E cX2_summed 2 (some .int) p s m args meth c) (y : MS ⊕ ((Int32 × MS) ⊕ MS)) (hE : fX2_summed_J33 k z t0 = some y) (hc : ∀ a : MS, y = .inl a → mW p l e rmX2_summed s m args below meth c E 2 Q 15 [(0, .ref (E.2.2.2.1 0))] [] a) (hx1 : ∀ b : Int32 × MS, y = .inr (.inl b) → mW p l e rmX2_summed s m args below meth c E 2 Q 38 [(1, .int b.1)] [] b.2) (hx2 : ∀ b : MS, y = .inr (.inr b) → mW p l e rmX2_summed s m args below meth c E 2 Q 47 [(0, .ref (E.2.2.2.1 0))] [] b) : mW p l e rmX2_summed s m args below meth c E 2 Q 33 [(0, .ref (E.2.2.2.1 0))] [.int t0] z := by
  intro H locs ls hP hS hl
  have hx := hC.1
  have hb := hC.2.1
  have hown := hC.2.2.2.2.2.1
  have hts := hC.2.2.2.2.2.2.1
  unfold fX2_summed_J33 at hE
  refine lv_istore_n (lv' := [(1, .int t0), (0, .ref (E.2.2.2.1 0))]) hx hb dX2_summed_33 rfl hl (Nat.le_of_ble_eq_true rfl) rfl (fun ls hl => ?_)
  refine lv_iload_n hx hb dX2_summed_34 rfl (lv_at hl 0 rfl) ?_
  refine lv_if_le (tgt := 40) hx hb dX2_summed_35 (by decide) (fun c_6 => ?_) (fun c_6 => ?_)
  · have hE := ip c_6 hE
    refine lv_iload_n hx hb dX2_summed_40 rfl (lv_at hl 0 rfl) ?_
    refine lv_if_ne (tgt := 47) hx hb dX2_summed_41 (by decide) (fun c_7 => ?_) (fun c_7 => ?_)
    · have hE := iq c_7 hE
      exact hx2 _ (Option.some.inj hE).symm H locs ls hP hS (lv_sub hl [1] rfl)
    · have hE := ip c_7 hE
      refine lv_goto (tgt := 15) hx hb dX2_summed_44 (by decide) ?_
      exact hc _ (Option.some.inj hE).symm H locs ls hP hS (lv_sub hl [1] rfl)
  · have hE := iq c_6 hE
    exact hx1 _ (Option.some.inj hE).symm H locs ls hP hS (lv_sub hl [0] rfl)
def fX2_summed_B15 (k : Nat)  (a : MS) : Option (MS ⊕ ((Int32 × MS) ⊕ MS)) := if (a.1 18) = 0 then ((fX2_beginOne k a ).bind fun r_5 => (fX2_summed_J33 k r_5.2 r_5.1)) else ((fX2_behindOne k a ).bind fun r_8 => (fX2_summed_J33 k r_8.2 r_8.1))
set_option maxHeartbeats 1000000 in
theorem wX2_summed_B15 {p : Program} {l : Launch} {e : Env} {s : State} {m : MethodId} {args : Array Value} {below : List Frame} {meth : Method} {c : Code} {E : ME} {Q : State → Prop} (k : Nat)  (hC : mC E cX2_summed 2 (some .int) p s m args meth c) (a : MS) (y : MS ⊕ ((Int32 × MS) ⊕ MS)) (hE : fX2_summed_B15 k  a = some y) (hc : ∀ a : MS, y = .inl a → mW p l e rmX2_summed s m args below meth c E 2 Q 15 [(0, .ref (E.2.2.2.1 0))] [] a) (hx1 : ∀ b : Int32 × MS, y = .inr (.inl b) → mW p l e rmX2_summed s m args below meth c E 2 Q 38 [(1, .int b.1)] [] b.2) (hx2 : ∀ b : MS, y = .inr (.inr b) → mW p l e rmX2_summed s m args below meth c E 2 Q 47 [(0, .ref (E.2.2.2.1 0))] [] b) : mW p l e rmX2_summed s m args below meth c E 2 Q 15 [(0, .ref (E.2.2.2.1 0))] [] a := by
  intro H locs ls hP hS hl
  have hx := hC.1
  have hb := hC.2.1
  have hown := hC.2.2.2.2.2.1
  have hts := hC.2.2.2.2.2.2.1
  unfold fX2_summed_B15 at hE
  refine lv_aload_n hx hb dX2_summed_15 rfl (lv_at hl 0 rfl) ?_
  refine gM_191 hC hP dX2_summed_16 ?_
  refine lv_if_eq (tgt := 29) hx hb dX2_summed_19 (by decide) (fun c_4 => ?_) (fun c_4 => ?_)
  · have hE := ip c_4 hE
    refine lv_aload_n hx hb dX2_summed_29 rfl (lv_at hl 0 rfl) ?_
    obtain ⟨r_5, h_5, hE⟩ := ob hE
    refine m_calli [] hC hP hS hl.1 (wX2_beginOne k a  r_5 h_5) (cwV 0 hts lkX2_209 rfl rfl rfl cdX2_beginOne ⟨Nat.le_of_ble_eq_true rfl, Nat.le_of_ble_eq_true rfl⟩) rfl rfl (lv_room (Nat.le_of_ble_eq_true rfl)) dX2_summed_30 (fun H locs hP hS => ?_)
    exact wX2_summed_J33 k r_5.2 r_5.1 hC y hE hc hx1 hx2 H locs ls hP hS hl
  · have hE := iq c_4 hE
    refine lv_aload_n hx hb dX2_summed_22 rfl (lv_at hl 0 rfl) ?_
    obtain ⟨r_8, h_8, hE⟩ := ob hE
    refine m_calli [] hC hP hS hl.1 (wX2_behindOne k a  r_8 h_8) (cwV 0 hts lkX2_206 rfl rfl rfl cdX2_behindOne ⟨Nat.le_of_ble_eq_true rfl, Nat.le_of_ble_eq_true rfl⟩) rfl rfl (lv_room (Nat.le_of_ble_eq_true rfl)) dX2_summed_23 (fun H locs hP hS => ?_)
    refine lv_goto (tgt := 33) hx hb dX2_summed_26 (by decide) ?_
    exact wX2_summed_J33 k r_8.2 r_8.1 hC y hE hc hx1 hx2 H locs ls hP hS hl
def fX2_summed (k : Nat) (z : MS)  : Option (Int32 × MS) := nm (mI z 16 (0 : Int32)) fun z_1 => nm (mI z_1 17 (0 : Int32)) fun z_2 => nm (mI z_2 18 (0 : Int32)) fun z_3 => (lpo (fX2_summed_B15 k ) k z_3).bind fun x_9 => (Sum.elim (fun t_9 : Int32 × MS => some (t_9.1, t_9.2)) (fun t_9 : MS => (fX2_openNow k t_9 ).bind fun r_10 => if r_10 < 0 then ((fX2_settle k t_9 (1 : Int32)).bind fun r_12 => some ((0 : Int32), r_12)) else (some ((1 : Int32), t_9)))) x_9
set_option maxHeartbeats 1000000 in
theorem wX2_summed {l : Launch} {E : ME} (k : Nat) (z : MS)  (y : Int32 × MS) (hE : fX2_summed k z  = some y) : mM l yX2_summed (ws_ yX2_summed cX2_summed 2 (some .int)) rmX2_summed E z [] (some (.int y.1)) y.2 := by
  refine m_met (by decide) rfl (Nat.le_of_ble_eq_true rfl) (fun p e s m args below meth c hC => ?_)
  intro H locs ls hP hS hl
  have hx := hC.1
  have hb := hC.2.1
  have hown := hC.2.2.2.2.2.1
  have hts := hC.2.2.2.2.2.2.1
  have hl : lv_has ls 2 [(0, .ref (E.2.2.2.1 0))] := hl
  unfold fX2_summed at hE
  refine lv_aload_n hx hb dX2_summed_0 rfl (lv_at hl 0 rfl) ?_
  refine lv_iconst (v := 0) hx hb dX2_summed_1 (by decide) ?_
  obtain ⟨z_1, ez_1, hE⟩ := on hE
  refine pM_146 hC hP hS ez_1 dX2_summed_2 (fun H locs hP hS => ?_)
  refine lv_aload_n hx hb dX2_summed_5 rfl (lv_at hl 0 rfl) ?_
  refine lv_iconst (v := 0) hx hb dX2_summed_6 (by decide) ?_
  obtain ⟨z_2, ez_2, hE⟩ := on hE
  refine pM_155 hC hP hS ez_2 dX2_summed_7 (fun H locs hP hS => ?_)
  refine lv_aload_n hx hb dX2_summed_10 rfl (lv_at hl 0 rfl) ?_
  refine lv_iconst (v := 0) hx hb dX2_summed_11 (by decide) ?_
  obtain ⟨z_3, ez_3, hE⟩ := on hE
  refine pM_191 hC hP hS ez_3 (by decide) (by decide) dX2_summed_12 (fun H locs hP hS => ?_)
  obtain ⟨x_9, h_9, hE⟩ := ob hE
  refine lpo_walk (fun p_9 : MS => mW p l e rmX2_summed s m args below meth c E 2 (mQ E below args s (some (.int y.1)) y.2) 15 [(0, .ref (E.2.2.2.1 0))] [] p_9) (fun q_9 : ((Int32 × MS) ⊕ MS) => (∀ t_9 : Int32 × MS, q_9 = (.inl t_9) → mW p l e rmX2_summed s m args below meth c E 2 (mQ E below args s (some (.int y.1)) y.2) 38 [(1, .int t_9.1)] [] t_9.2) ∧ (∀ t_9 : MS, q_9 = (.inr t_9) → mW p l e rmX2_summed s m args below meth c E 2 (mQ E below args s (some (.int y.1)) y.2) 47 [(0, .ref (E.2.2.2.1 0))] [] t_9)) (fun a_9 y_9 hB_9 hc_9 hx_9 => wX2_summed_B15 k  hC a_9 y_9 hB_9 hc_9 (fun t_9 e_9 => (hx_9 _ e_9).1 t_9 rfl) (fun t_9 e_9 => (hx_9 _ e_9).2 t_9 rfl)) _ _ x_9 h_9 ?_ H locs ls hP hS hl
  refine ⟨?_, ?_⟩
  · intro t_9 e_9
    subst e_9
    have hE := oel hE
    intro H locs ls hP hS hl
    refine lv_iload_n hx hb dX2_summed_38 rfl (lv_at hl 0 rfl) ?_
    obtain rfl := Option.some.inj hE
    exact m_iret hC hP hS dX2_summed_39
  · intro t_9 e_9
    subst e_9
    have hE := oer hE
    intro H locs ls hP hS hl
    refine lv_aload_n hx hb dX2_summed_47 rfl (lv_at hl 0 rfl) ?_
    obtain ⟨r_10, h_10, hE⟩ := ob hE
    refine m_calli [] hC hP hS hl.1 (wX2_openNow k t_9  r_10 h_10) (cwV 0 hts lkX2_162 rfl rfl rfl cdX2_openNow ⟨Nat.le_of_ble_eq_true rfl, Nat.le_of_ble_eq_true rfl⟩) rfl rfl (lv_room (Nat.le_of_ble_eq_true rfl)) dX2_summed_48 (fun H locs hP hS => ?_)
    refine lv_if_lt (tgt := 56) hx hb dX2_summed_51 (by decide) (fun c_11 => ?_) (fun c_11 => ?_)
    · have hE := ip c_11 hE
      refine lv_aload_n hx hb dX2_summed_56 rfl (lv_at hl 0 rfl) ?_
      refine lv_iconst (v := 1) hx hb dX2_summed_57 (by decide) ?_
      obtain ⟨r_12, h_12, hE⟩ := ob hE
      refine m_callv [.int (1 : Int32)] hC hP hS hl.1 (wX2_settle k t_9 (1 : Int32) r_12 h_12) (cwV 1 hts lkX2_188 rfl rfl rfl cdX2_settle ⟨Nat.le_of_ble_eq_true rfl, Nat.le_of_ble_eq_true rfl⟩) rfl rfl (lv_room (Nat.le_of_ble_eq_true rfl)) dX2_summed_58 (fun H locs hP hS => ?_)
      refine lv_iconst (v := 0) hx hb dX2_summed_61 (by decide) ?_
      obtain rfl := Option.some.inj hE
      exact m_iret hC hP hS dX2_summed_62
    · have hE := iq c_11 hE
      refine lv_iconst (v := 1) hx hb dX2_summed_54 (by decide) ?_
      obtain rfl := Option.some.inj hE
      exact m_iret hC hP hS dX2_summed_55
def fX2_lawClause (k : Nat) (z : MS) (x1 : Int32) : Option (Int32 × MS) := if ib (x1 + (1 : Int32)) 2724 then none else (nm (mA z 2 (upd (z.2.2.1 2) (x1 + (1 : Int32)).toNatClampNeg (z.1 13))) fun z_1 => (fX2_summed k z_1 ).bind fun r_2 => if ib (x1 + (2 : Int32)) 2724 then none else (nm (mA r_2.2 2 (upd (r_2.2.2.2.1 2) (x1 + (2 : Int32)).toNatClampNeg (r_2.2.1 13))) fun z_3 => some (r_2.1, z_3)))
set_option maxHeartbeats 1000000 in
theorem wX2_lawClause {l : Launch} {E : ME} (k : Nat) (z : MS) (x1 : Int32) (y : Int32 × MS) (hE : fX2_lawClause k z x1 = some y) : mM l yX2_lawClause (ws_ yX2_lawClause cX2_lawClause 3 (some .int)) rmX2_lawClause E z [.int x1] (some (.int y.1)) y.2 := by
  refine m_met (by decide) rfl (Nat.le_of_ble_eq_true rfl) (fun p e s m args below meth c hC => ?_)
  intro H locs ls hP hS hl
  have hx := hC.1
  have hb := hC.2.1
  have hown := hC.2.2.2.2.2.1
  have hts := hC.2.2.2.2.2.2.1
  have hl : lv_has ls 3 [(0, .ref (E.2.2.2.1 0)), (1, .int x1)] := hl
  unfold fX2_lawClause at hE
  refine lv_aload_n hx hb dX2_lawClause_0 rfl (lv_at hl 0 rfl) ?_
  refine gM_16 hC hP dX2_lawClause_1 ?_
  refine lv_iload_n hx hb dX2_lawClause_4 rfl (lv_at hl 1 rfl) ?_
  refine lv_iconst (v := 1) hx hb dX2_lawClause_5 (by decide) ?_
  refine lv_iadd hx hb dX2_lawClause_6 ?_
  refine lv_aload_n hx hb dX2_lawClause_7 rfl (lv_at hl 0 rfl) ?_
  refine gM_139 hC hP dX2_lawClause_8 ?_
  obtain ⟨c_1, hE⟩ := og hE
  obtain ⟨z_1, ez_1, hE⟩ := on hE
  refine tM_2 hC hP hS c_1 ez_1 dX2_lawClause_11 (fun H locs hP hS => ?_)
  refine lv_aload_n hx hb dX2_lawClause_12 rfl (lv_at hl 0 rfl) ?_
  obtain ⟨r_2, h_2, hE⟩ := ob hE
  refine m_calli [] hC hP hS hl.1 (wX2_summed k z_1  r_2 h_2) (cwV 0 hts lkX2_212 rfl rfl rfl cdX2_summed ⟨Nat.le_of_ble_eq_true rfl, Nat.le_of_ble_eq_true rfl⟩) rfl rfl (lv_room (Nat.le_of_ble_eq_true rfl)) dX2_lawClause_13 (fun H locs hP hS => ?_)
  refine lv_istore_n (lv' := [(2, .int r_2.1), (0, .ref (E.2.2.2.1 0)), (1, .int x1)]) hx hb dX2_lawClause_16 rfl hl (Nat.le_of_ble_eq_true rfl) rfl (fun ls hl => ?_)
  refine lv_aload_n hx hb dX2_lawClause_17 rfl (lv_at hl 1 rfl) ?_
  refine gM_16 hC hP dX2_lawClause_18 ?_
  refine lv_iload_n hx hb dX2_lawClause_21 rfl (lv_at hl 2 rfl) ?_
  refine lv_iconst (v := 2) hx hb dX2_lawClause_22 (by decide) ?_
  refine lv_iadd hx hb dX2_lawClause_23 ?_
  refine lv_aload_n hx hb dX2_lawClause_24 rfl (lv_at hl 1 rfl) ?_
  refine gM_139 hC hP dX2_lawClause_25 ?_
  obtain ⟨c_3, hE⟩ := og hE
  obtain ⟨z_3, ez_3, hE⟩ := on hE
  refine tM_2 hC hP hS c_3 ez_3 dX2_lawClause_28 (fun H locs hP hS => ?_)
  refine lv_iload_n hx hb dX2_lawClause_29 rfl (lv_at hl 0 rfl) ?_
  obtain rfl := Option.some.inj hE
  exact m_iret hC hP hS dX2_lawClause_30
def fX2_body (k : Nat) (z : MS) (x1 : Int32) (x2 : Int32) : Option (Int32 × MS) := if x1 = (2 : Int32) then ((fX2_w4 (107 : Int32) (105 : Int32) (110 : Int32) (100 : Int32)).bind fun r_2 => (fX2_pair k z x2 (0 : Int32) (29 : Int32) r_2 (3 : Int32)).bind fun r_3 => some (r_3.1, r_3.2)) else if x1 = (3 : Int32) then ((fX2_w2 (97 : Int32) (116 : Int32)).bind fun r_4 => (fX2_pair k z x2 (0 : Int32) (9 : Int32) r_4 (29 : Int32)).bind fun r_5 => some (r_5.1, r_5.2)) else if x1 = (4 : Int32) then ((fX2_w4 (108 : Int32) (117 : Int32) (99 : Int32) (107 : Int32)).bind fun r_6 => (fX2_pair k z x2 (1 : Int32) (9 : Int32) r_6 (9 : Int32)).bind fun r_7 => some (r_7.1, r_7.2)) else if x1 = (5 : Int32) then ((fX2_w4 (102 : Int32) (114 : Int32) (111 : Int32) (109 : Int32)).bind fun r_8 => (fX2_pair k z x2 (0 : Int32) (6 : Int32) r_8 (29 : Int32)).bind fun r_9 => some (r_9.1, r_9.2)) else if x1 = (6 : Int32) then ((fX2_figure k z (x2 + (1 : Int32)) (0 : Int32) (29 : Int32)).bind fun r_10 => some (r_10.1, r_10.2)) else if x1 = (7 : Int32) then ((fX2_figure k z (x2 + (1 : Int32)) (0 : Int32) (29 : Int32)).bind fun r_11 => some (r_11.1, r_11.2)) else if x1 = (8 : Int32) then ((fX2_figure k z (x2 + (1 : Int32)) (1 : Int32) (60 : Int32)).bind fun r_12 => some (r_12.1, r_12.2)) else ((fX2_lawClause k z x2).bind fun r_13 => some (r_13.1, r_13.2))
set_option maxHeartbeats 1000000 in
theorem wX2_body {l : Launch} {E : ME} (k : Nat) (z : MS) (x1 : Int32) (x2 : Int32) (y : Int32 × MS) (hE : fX2_body k z x1 x2 = some y) : mM l yX2_body (ws_ yX2_body cX2_body 3 (some .int)) rmX2_body E z [.int x1, .int x2] (some (.int y.1)) y.2 := by
  refine m_met (by decide) rfl (Nat.le_of_ble_eq_true rfl) (fun p e s m args below meth c hC => ?_)
  intro H locs ls hP hS hl
  have hx := hC.1
  have hb := hC.2.1
  have hown := hC.2.2.2.2.2.1
  have hts := hC.2.2.2.2.2.2.1
  have hl : lv_has ls 3 [(0, .ref (E.2.2.2.1 0)), (1, .int x1), (2, .int x2)] := hl
  unfold fX2_body at hE
  refine lv_iload_n hx hb dX2_body_0 rfl (lv_at hl 1 rfl) ?_
  by_cases c_1_0 : x1 = (2 : Int32)
  · have hE := ip c_1_0 hE
    refine lv_tableIn (tgt := 44) (off := 43) hx hb dX2_body_1 (by rw [c_1_0]; decide) (by rw [c_1_0]; decide) (by rw [c_1_0]; rfl) (by decide) ?_
    refine lv_aload_n hx hb dX2_body_44 rfl (lv_at hl 0 rfl) ?_
    refine lv_iload_n hx hb dX2_body_45 rfl (lv_at hl 2 rfl) ?_
    refine lv_iconst (v := 0) hx hb dX2_body_46 (by decide) ?_
    refine lv_bipush (v := 29) hx hb dX2_body_47 (by decide) ?_
    refine lv_bipush (v := 107) hx hb dX2_body_49 (by decide) ?_
    refine lv_bipush (v := 105) hx hb dX2_body_51 (by decide) ?_
    refine lv_bipush (v := 110) hx hb dX2_body_53 (by decide) ?_
    refine lv_bipush (v := 100) hx hb dX2_body_55 (by decide) ?_
    obtain ⟨r_2, h_2, hE⟩ := ob hE
    refine s_calll [.int (107 : Int32), .int (105 : Int32), .int (110 : Int32), .int (100 : Int32)] hC.sC hl.1 (wX2_w4 (107 : Int32) (105 : Int32) (110 : Int32) (100 : Int32) r_2 h_2) (va_cwS 4 hts lkX2_128 rfl rfl rfl cdX2_w4 ⟨Nat.le_of_ble_eq_true rfl, Nat.le_of_ble_eq_true rfl⟩) rfl rfl (lv_room (Nat.le_of_ble_eq_true rfl)) ⟨Nat.zero_le _, Nat.zero_le _⟩ dX2_body_57 ?_
    refine lv_iconst (v := 3) hx hb dX2_body_60 (by decide) ?_
    obtain ⟨r_3, h_3, hE⟩ := ob hE
    refine m_calli [.int x2, .int (0 : Int32), .int (29 : Int32), .long r_2, .int (3 : Int32)] hC hP hS hl.1 (wX2_pair k z x2 (0 : Int32) (29 : Int32) r_2 (3 : Int32) r_3 h_3) (cwV 5 hts lkX2_219 rfl rfl rfl cdX2_pair ⟨Nat.le_of_ble_eq_true rfl, Nat.le_of_ble_eq_true rfl⟩) rfl rfl (lv_room (Nat.le_of_ble_eq_true rfl)) dX2_body_61 (fun H locs hP hS => ?_)
    obtain rfl := Option.some.inj hE
    exact m_iret hC hP hS dX2_body_64
  have hE := iq c_1_0 hE
  by_cases c_1_1 : x1 = (3 : Int32)
  · have hE := ip c_1_1 hE
    refine lv_tableIn (tgt := 65) (off := 64) hx hb dX2_body_1 (by rw [c_1_1]; decide) (by rw [c_1_1]; decide) (by rw [c_1_1]; rfl) (by decide) ?_
    refine lv_aload_n hx hb dX2_body_65 rfl (lv_at hl 0 rfl) ?_
    refine lv_iload_n hx hb dX2_body_66 rfl (lv_at hl 2 rfl) ?_
    refine lv_iconst (v := 0) hx hb dX2_body_67 (by decide) ?_
    refine lv_bipush (v := 9) hx hb dX2_body_68 (by decide) ?_
    refine lv_bipush (v := 97) hx hb dX2_body_70 (by decide) ?_
    refine lv_bipush (v := 116) hx hb dX2_body_72 (by decide) ?_
    obtain ⟨r_4, h_4, hE⟩ := ob hE
    refine s_calll [.int (97 : Int32), .int (116 : Int32)] hC.sC hl.1 (wX2_w2 (97 : Int32) (116 : Int32) r_4 h_4) (va_cwS 2 hts lkX2_120 rfl rfl rfl cdX2_w2 ⟨Nat.le_of_ble_eq_true rfl, Nat.le_of_ble_eq_true rfl⟩) rfl rfl (lv_room (Nat.le_of_ble_eq_true rfl)) ⟨Nat.zero_le _, Nat.zero_le _⟩ dX2_body_74 ?_
    refine lv_bipush (v := 29) hx hb dX2_body_77 (by decide) ?_
    obtain ⟨r_5, h_5, hE⟩ := ob hE
    refine m_calli [.int x2, .int (0 : Int32), .int (9 : Int32), .long r_4, .int (29 : Int32)] hC hP hS hl.1 (wX2_pair k z x2 (0 : Int32) (9 : Int32) r_4 (29 : Int32) r_5 h_5) (cwV 5 hts lkX2_219 rfl rfl rfl cdX2_pair ⟨Nat.le_of_ble_eq_true rfl, Nat.le_of_ble_eq_true rfl⟩) rfl rfl (lv_room (Nat.le_of_ble_eq_true rfl)) dX2_body_79 (fun H locs hP hS => ?_)
    obtain rfl := Option.some.inj hE
    exact m_iret hC hP hS dX2_body_82
  have hE := iq c_1_1 hE
  by_cases c_1_2 : x1 = (4 : Int32)
  · have hE := ip c_1_2 hE
    refine lv_tableIn (tgt := 83) (off := 82) hx hb dX2_body_1 (by rw [c_1_2]; decide) (by rw [c_1_2]; decide) (by rw [c_1_2]; rfl) (by decide) ?_
    refine lv_aload_n hx hb dX2_body_83 rfl (lv_at hl 0 rfl) ?_
    refine lv_iload_n hx hb dX2_body_84 rfl (lv_at hl 2 rfl) ?_
    refine lv_iconst (v := 1) hx hb dX2_body_85 (by decide) ?_
    refine lv_bipush (v := 9) hx hb dX2_body_86 (by decide) ?_
    refine lv_bipush (v := 108) hx hb dX2_body_88 (by decide) ?_
    refine lv_bipush (v := 117) hx hb dX2_body_90 (by decide) ?_
    refine lv_bipush (v := 99) hx hb dX2_body_92 (by decide) ?_
    refine lv_bipush (v := 107) hx hb dX2_body_94 (by decide) ?_
    obtain ⟨r_6, h_6, hE⟩ := ob hE
    refine s_calll [.int (108 : Int32), .int (117 : Int32), .int (99 : Int32), .int (107 : Int32)] hC.sC hl.1 (wX2_w4 (108 : Int32) (117 : Int32) (99 : Int32) (107 : Int32) r_6 h_6) (va_cwS 4 hts lkX2_128 rfl rfl rfl cdX2_w4 ⟨Nat.le_of_ble_eq_true rfl, Nat.le_of_ble_eq_true rfl⟩) rfl rfl (lv_room (Nat.le_of_ble_eq_true rfl)) ⟨Nat.zero_le _, Nat.zero_le _⟩ dX2_body_96 ?_
    refine lv_bipush (v := 9) hx hb dX2_body_99 (by decide) ?_
    obtain ⟨r_7, h_7, hE⟩ := ob hE
    refine m_calli [.int x2, .int (1 : Int32), .int (9 : Int32), .long r_6, .int (9 : Int32)] hC hP hS hl.1 (wX2_pair k z x2 (1 : Int32) (9 : Int32) r_6 (9 : Int32) r_7 h_7) (cwV 5 hts lkX2_219 rfl rfl rfl cdX2_pair ⟨Nat.le_of_ble_eq_true rfl, Nat.le_of_ble_eq_true rfl⟩) rfl rfl (lv_room (Nat.le_of_ble_eq_true rfl)) dX2_body_101 (fun H locs hP hS => ?_)
    obtain rfl := Option.some.inj hE
    exact m_iret hC hP hS dX2_body_104
  have hE := iq c_1_2 hE
  by_cases c_1_3 : x1 = (5 : Int32)
  · have hE := ip c_1_3 hE
    refine lv_tableIn (tgt := 105) (off := 104) hx hb dX2_body_1 (by rw [c_1_3]; decide) (by rw [c_1_3]; decide) (by rw [c_1_3]; rfl) (by decide) ?_
    refine lv_aload_n hx hb dX2_body_105 rfl (lv_at hl 0 rfl) ?_
    refine lv_iload_n hx hb dX2_body_106 rfl (lv_at hl 2 rfl) ?_
    refine lv_iconst (v := 0) hx hb dX2_body_107 (by decide) ?_
    refine lv_bipush (v := 6) hx hb dX2_body_108 (by decide) ?_
    refine lv_bipush (v := 102) hx hb dX2_body_110 (by decide) ?_
    refine lv_bipush (v := 114) hx hb dX2_body_112 (by decide) ?_
    refine lv_bipush (v := 111) hx hb dX2_body_114 (by decide) ?_
    refine lv_bipush (v := 109) hx hb dX2_body_116 (by decide) ?_
    obtain ⟨r_8, h_8, hE⟩ := ob hE
    refine s_calll [.int (102 : Int32), .int (114 : Int32), .int (111 : Int32), .int (109 : Int32)] hC.sC hl.1 (wX2_w4 (102 : Int32) (114 : Int32) (111 : Int32) (109 : Int32) r_8 h_8) (va_cwS 4 hts lkX2_128 rfl rfl rfl cdX2_w4 ⟨Nat.le_of_ble_eq_true rfl, Nat.le_of_ble_eq_true rfl⟩) rfl rfl (lv_room (Nat.le_of_ble_eq_true rfl)) ⟨Nat.zero_le _, Nat.zero_le _⟩ dX2_body_118 ?_
    refine lv_bipush (v := 29) hx hb dX2_body_121 (by decide) ?_
    obtain ⟨r_9, h_9, hE⟩ := ob hE
    refine m_calli [.int x2, .int (0 : Int32), .int (6 : Int32), .long r_8, .int (29 : Int32)] hC hP hS hl.1 (wX2_pair k z x2 (0 : Int32) (6 : Int32) r_8 (29 : Int32) r_9 h_9) (cwV 5 hts lkX2_219 rfl rfl rfl cdX2_pair ⟨Nat.le_of_ble_eq_true rfl, Nat.le_of_ble_eq_true rfl⟩) rfl rfl (lv_room (Nat.le_of_ble_eq_true rfl)) dX2_body_123 (fun H locs hP hS => ?_)
    obtain rfl := Option.some.inj hE
    exact m_iret hC hP hS dX2_body_126
  have hE := iq c_1_3 hE
  by_cases c_1_4 : x1 = (6 : Int32)
  · have hE := ip c_1_4 hE
    refine lv_tableIn (tgt := 127) (off := 126) hx hb dX2_body_1 (by rw [c_1_4]; decide) (by rw [c_1_4]; decide) (by rw [c_1_4]; rfl) (by decide) ?_
    refine lv_aload_n hx hb dX2_body_127 rfl (lv_at hl 0 rfl) ?_
    refine lv_iload_n hx hb dX2_body_128 rfl (lv_at hl 2 rfl) ?_
    refine lv_iconst (v := 1) hx hb dX2_body_129 (by decide) ?_
    refine lv_iadd hx hb dX2_body_130 ?_
    refine lv_iconst (v := 0) hx hb dX2_body_131 (by decide) ?_
    refine lv_bipush (v := 29) hx hb dX2_body_132 (by decide) ?_
    obtain ⟨r_10, h_10, hE⟩ := ob hE
    refine m_calli [.int (x2 + (1 : Int32)), .int (0 : Int32), .int (29 : Int32)] hC hP hS hl.1 (wX2_figure k z (x2 + (1 : Int32)) (0 : Int32) (29 : Int32) r_10 h_10) (cwV 3 hts lkX2_215 rfl rfl rfl cdX2_figure ⟨Nat.le_of_ble_eq_true rfl, Nat.le_of_ble_eq_true rfl⟩) rfl rfl (lv_room (Nat.le_of_ble_eq_true rfl)) dX2_body_134 (fun H locs hP hS => ?_)
    obtain rfl := Option.some.inj hE
    exact m_iret hC hP hS dX2_body_137
  have hE := iq c_1_4 hE
  by_cases c_1_5 : x1 = (7 : Int32)
  · have hE := ip c_1_5 hE
    refine lv_tableIn (tgt := 138) (off := 137) hx hb dX2_body_1 (by rw [c_1_5]; decide) (by rw [c_1_5]; decide) (by rw [c_1_5]; rfl) (by decide) ?_
    refine lv_aload_n hx hb dX2_body_138 rfl (lv_at hl 0 rfl) ?_
    refine lv_iload_n hx hb dX2_body_139 rfl (lv_at hl 2 rfl) ?_
    refine lv_iconst (v := 1) hx hb dX2_body_140 (by decide) ?_
    refine lv_iadd hx hb dX2_body_141 ?_
    refine lv_iconst (v := 0) hx hb dX2_body_142 (by decide) ?_
    refine lv_bipush (v := 29) hx hb dX2_body_143 (by decide) ?_
    obtain ⟨r_11, h_11, hE⟩ := ob hE
    refine m_calli [.int (x2 + (1 : Int32)), .int (0 : Int32), .int (29 : Int32)] hC hP hS hl.1 (wX2_figure k z (x2 + (1 : Int32)) (0 : Int32) (29 : Int32) r_11 h_11) (cwV 3 hts lkX2_215 rfl rfl rfl cdX2_figure ⟨Nat.le_of_ble_eq_true rfl, Nat.le_of_ble_eq_true rfl⟩) rfl rfl (lv_room (Nat.le_of_ble_eq_true rfl)) dX2_body_145 (fun H locs hP hS => ?_)
    obtain rfl := Option.some.inj hE
    exact m_iret hC hP hS dX2_body_148
  have hE := iq c_1_5 hE
  by_cases c_1_6 : x1 = (8 : Int32)
  · have hE := ip c_1_6 hE
    refine lv_tableIn (tgt := 149) (off := 148) hx hb dX2_body_1 (by rw [c_1_6]; decide) (by rw [c_1_6]; decide) (by rw [c_1_6]; rfl) (by decide) ?_
    refine lv_aload_n hx hb dX2_body_149 rfl (lv_at hl 0 rfl) ?_
    refine lv_iload_n hx hb dX2_body_150 rfl (lv_at hl 2 rfl) ?_
    refine lv_iconst (v := 1) hx hb dX2_body_151 (by decide) ?_
    refine lv_iadd hx hb dX2_body_152 ?_
    refine lv_iconst (v := 1) hx hb dX2_body_153 (by decide) ?_
    refine lv_bipush (v := 60) hx hb dX2_body_154 (by decide) ?_
    obtain ⟨r_12, h_12, hE⟩ := ob hE
    refine m_calli [.int (x2 + (1 : Int32)), .int (1 : Int32), .int (60 : Int32)] hC hP hS hl.1 (wX2_figure k z (x2 + (1 : Int32)) (1 : Int32) (60 : Int32) r_12 h_12) (cwV 3 hts lkX2_215 rfl rfl rfl cdX2_figure ⟨Nat.le_of_ble_eq_true rfl, Nat.le_of_ble_eq_true rfl⟩) rfl rfl (lv_room (Nat.le_of_ble_eq_true rfl)) dX2_body_156 (fun H locs hP hS => ?_)
    obtain rfl := Option.some.inj hE
    exact m_iret hC hP hS dX2_body_159
  have hE := iq c_1_6 hE
  refine m_tdef (tgt := 160) hx hb dX2_body_1 (by decide) (fun h1 h2 => ?_) ?_
  · have h3 : x1.toInt = 2 ∨ x1.toInt = 3 ∨ x1.toInt = 4 ∨ x1.toInt = 5 ∨ x1.toInt = 6 ∨ x1.toInt = 7 ∨ x1.toInt = 8 := by omega
    rcases h3 with h3 | h3 | h3 | h3 | h3 | h3 | h3
    · exact absurd (Int32.toInt_inj.mp (by rw [h3]; decide)) c_1_0
    · exact absurd (Int32.toInt_inj.mp (by rw [h3]; decide)) c_1_1
    · exact absurd (Int32.toInt_inj.mp (by rw [h3]; decide)) c_1_2
    · exact absurd (Int32.toInt_inj.mp (by rw [h3]; decide)) c_1_3
    · exact absurd (Int32.toInt_inj.mp (by rw [h3]; decide)) c_1_4
    · exact absurd (Int32.toInt_inj.mp (by rw [h3]; decide)) c_1_5
    · exact absurd (Int32.toInt_inj.mp (by rw [h3]; decide)) c_1_6
  refine lv_aload_n hx hb dX2_body_160 rfl (lv_at hl 0 rfl) ?_
  refine lv_iload_n hx hb dX2_body_161 rfl (lv_at hl 2 rfl) ?_
  obtain ⟨r_13, h_13, hE⟩ := ob hE
  refine m_calli [.int x2] hC hP hS hl.1 (wX2_lawClause k z x2 r_13 h_13) (cwV 1 hts lkX2_223 rfl rfl rfl cdX2_lawClause ⟨Nat.le_of_ble_eq_true rfl, Nat.le_of_ble_eq_true rfl⟩) rfl rfl (lv_room (Nat.le_of_ble_eq_true rfl)) dX2_body_162 (fun H locs hP hS => ?_)
  obtain rfl := Option.some.inj hE
  exact m_iret hC hP hS dX2_body_165
def fX2_clause_J65 (k : Nat) (z : MS) (x1 : Int32) (x2 : Int32) : Option (Int32 × MS) := nm (mI z 14 x1) fun z_7 => (fX2_nextToken k z_7 ).bind fun r_8 => if ib (((r_8.1 12) + (1 : Int32)) + ((3 : Int32) * x2)) 2724 then none else (nm (mA r_8 2 (upd (r_8.2.2.1 2) (((r_8.1 12) + (1 : Int32)) + ((3 : Int32) * x2)).toNatClampNeg x1)) fun z_9 => (fX2_body k z_9 x1 (((r_8.1 12) + (1 : Int32)) + ((3 : Int32) * x2))).bind fun r_10 => if r_10.1 = 0 then (if ib (r_10.2.1 12) 2724 then none else (if ib (r_10.2.1 12) 2724 then none else (nm (mA r_10.2 2 (upd (r_10.2.2.2.1 2) (r_10.2.1 12).toNatClampNeg ((r_10.2.2.2.1 2 (r_10.2.1 12).toNatClampNeg) + (1 : Int32)))) fun z_13 => if (z_13.1 9) = (59 : Int32) then ((fX2_nextToken k z_13 ).bind fun r_15 => some ((0 : Int32), r_15)) else (some ((1 : Int32), z_13))))) else (some (r_10.1, r_10.2)))
set_option maxHeartbeats 1000000 in
theorem wX2_clause_J65 {p : Program} {l : Launch} {e : Env} {s : State} {m : MethodId} {args : Array Value} {below : List Frame} {meth : Method} {c : Code} {E : ME} (k : Nat) (z : MS) (x1 : Int32) (x2 : Int32) (hC : mC E cX2_clause 5 (some .int) p s m args meth c) (y : Int32 × MS) (hE : fX2_clause_J65 k z x1 x2 = some y) : mW p l e rmX2_clause s m args below meth c E 5 (mQ E below args s (some (.int y.1)) y.2) 65 [(0, .ref (E.2.2.2.1 0)), (1, .int x1), (2, .int x2)] [] z := by
  intro H locs ls hP hS hl
  have hx := hC.1
  have hb := hC.2.1
  have hown := hC.2.2.2.2.2.1
  have hts := hC.2.2.2.2.2.2.1
  unfold fX2_clause_J65 at hE
  refine lv_aload_n hx hb dX2_clause_65 rfl (lv_at hl 0 rfl) ?_
  refine lv_iload_n hx hb dX2_clause_66 rfl (lv_at hl 1 rfl) ?_
  obtain ⟨z_7, ez_7, hE⟩ := on hE
  refine pM_171 hC hP hS ez_7 dX2_clause_67 (fun H locs hP hS => ?_)
  refine lv_aload_n hx hb dX2_clause_70 rfl (lv_at hl 0 rfl) ?_
  obtain ⟨r_8, h_8, hE⟩ := ob hE
  refine m_callv [] hC hP hS hl.1 (wX2_nextToken k z_7  r_8 h_8) (cwV 0 hts lkX2_165 rfl rfl rfl cdX2_nextToken ⟨Nat.le_of_ble_eq_true rfl, Nat.le_of_ble_eq_true rfl⟩) rfl rfl (lv_room (Nat.le_of_ble_eq_true rfl)) dX2_clause_71 (fun H locs hP hS => ?_)
  refine lv_aload_n hx hb dX2_clause_74 rfl (lv_at hl 0 rfl) ?_
  refine gM_136 hC hP dX2_clause_75 ?_
  refine lv_iconst (v := 1) hx hb dX2_clause_78 (by decide) ?_
  refine lv_iadd hx hb dX2_clause_79 ?_
  refine lv_iconst (v := 3) hx hb dX2_clause_80 (by decide) ?_
  refine lv_iload_n hx hb dX2_clause_81 rfl (lv_at hl 2 rfl) ?_
  refine lv_imul hx hb dX2_clause_82 ?_
  refine lv_iadd hx hb dX2_clause_83 ?_
  refine lv_istore_n (lv' := [(3, .int (((r_8.1 12) + (1 : Int32)) + ((3 : Int32) * x2))), (0, .ref (E.2.2.2.1 0)), (1, .int x1), (2, .int x2)]) hx hb dX2_clause_84 rfl hl (Nat.le_of_ble_eq_true rfl) rfl (fun ls hl => ?_)
  refine lv_aload_n hx hb dX2_clause_85 rfl (lv_at hl 1 rfl) ?_
  refine gM_16 hC hP dX2_clause_86 ?_
  refine lv_iload_n hx hb dX2_clause_89 rfl (lv_at hl 0 rfl) ?_
  refine lv_iload_n hx hb dX2_clause_90 rfl (lv_at hl 2 rfl) ?_
  obtain ⟨c_9, hE⟩ := og hE
  obtain ⟨z_9, ez_9, hE⟩ := on hE
  refine tM_2 hC hP hS c_9 ez_9 dX2_clause_91 (fun H locs hP hS => ?_)
  refine lv_aload_n hx hb dX2_clause_92 rfl (lv_at hl 1 rfl) ?_
  refine lv_iload_n hx hb dX2_clause_93 rfl (lv_at hl 2 rfl) ?_
  refine lv_iload_n hx hb dX2_clause_94 rfl (lv_at hl 0 rfl) ?_
  obtain ⟨r_10, h_10, hE⟩ := ob hE
  refine m_calli [.int x1, .int (((r_8.1 12) + (1 : Int32)) + ((3 : Int32) * x2))] hC hP hS hl.1 (wX2_body k z_9 x1 (((r_8.1 12) + (1 : Int32)) + ((3 : Int32) * x2)) r_10 h_10) (cwV 2 hts lkX2_239 rfl rfl rfl cdX2_body ⟨Nat.le_of_ble_eq_true rfl, Nat.le_of_ble_eq_true rfl⟩) rfl rfl (lv_room (Nat.le_of_ble_eq_true rfl)) dX2_clause_95 (fun H locs hP hS => ?_)
  refine lv_istore (lv' := [(4, .int r_10.1), (3, .int (((r_8.1 12) + (1 : Int32)) + ((3 : Int32) * x2))), (0, .ref (E.2.2.2.1 0)), (1, .int x1), (2, .int x2)]) hx hb dX2_clause_98 hl (Nat.le_of_ble_eq_true rfl) rfl (fun ls hl => ?_)
  refine lv_iload hx hb dX2_clause_100 (lv_at hl 0 rfl) ?_
  refine lv_if_eq (tgt := 108) hx hb dX2_clause_102 (by decide) (fun c_11 => ?_) (fun c_11 => ?_)
  · have hE := ip c_11 hE
    refine lv_aload_n hx hb dX2_clause_108 rfl (lv_at hl 2 rfl) ?_
    refine gM_16 hC hP dX2_clause_109 ?_
    refine lv_aload_n hx hb dX2_clause_112 rfl (lv_at hl 2 rfl) ?_
    refine gM_136 hC hP dX2_clause_113 ?_
    refine lv_dup2_11 hx hb dX2_clause_116 rfl rfl ?_
    obtain ⟨c_12, hE⟩ := og hE
    refine aM_2 hC hP c_12 dX2_clause_117 ?_
    refine lv_iconst (v := 1) hx hb dX2_clause_118 (by decide) ?_
    refine lv_iadd hx hb dX2_clause_119 ?_
    obtain ⟨c_13, hE⟩ := og hE
    obtain ⟨z_13, ez_13, hE⟩ := on hE
    refine tM_2 hC hP hS c_13 ez_13 dX2_clause_120 (fun H locs hP hS => ?_)
    refine lv_aload_n hx hb dX2_clause_121 rfl (lv_at hl 2 rfl) ?_
    refine gM_98 hC hP dX2_clause_122 ?_
    refine lv_bipush (v := 59) hx hb dX2_clause_125 (by decide) ?_
    refine lv_icmp_eq (tgt := 132) hx hb dX2_clause_127 (by decide) (fun c_14 => ?_) (fun c_14 => ?_)
    · have hE := ip c_14 hE
      refine lv_aload_n hx hb dX2_clause_132 rfl (lv_at hl 2 rfl) ?_
      obtain ⟨r_15, h_15, hE⟩ := ob hE
      refine m_callv [] hC hP hS hl.1 (wX2_nextToken k z_13  r_15 h_15) (cwV 0 hts lkX2_165 rfl rfl rfl cdX2_nextToken ⟨Nat.le_of_ble_eq_true rfl, Nat.le_of_ble_eq_true rfl⟩) rfl rfl (lv_room (Nat.le_of_ble_eq_true rfl)) dX2_clause_133 (fun H locs hP hS => ?_)
      refine lv_iconst (v := 0) hx hb dX2_clause_136 (by decide) ?_
      obtain rfl := Option.some.inj hE
      exact m_iret hC hP hS dX2_clause_137
    · have hE := iq c_14 hE
      refine lv_iconst (v := 1) hx hb dX2_clause_130 (by decide) ?_
      obtain rfl := Option.some.inj hE
      exact m_iret hC hP hS dX2_clause_131
  · have hE := iq c_11 hE
    refine lv_iload hx hb dX2_clause_105 (lv_at hl 0 rfl) ?_
    obtain rfl := Option.some.inj hE
    exact m_iret hC hP hS dX2_clause_107
def fX2_clause_J29 (k : Nat) (z : MS) (x1 : Int32) : Option (Int32 × MS) := if ib (z.1 12) 2724 then none else (if (z.2.2.1 2 (z.1 12).toNatClampNeg) = (24 : Int32) then (some ((6 : Int32), z)) else (if (1 : Int32) < x1 then ((fX2_clause_J65 k z x1 (z.2.2.1 2 (z.1 12).toNatClampNeg))) else (nm (mI z 19 ((z.1 19) ||| ((1 : Int32) <<< (x1 &&& 31)))) fun z_16 => (fX2_clause_J65 k z_16 x1 (z.2.2.1 2 (z.1 12).toNatClampNeg)))))
set_option maxHeartbeats 1000000 in
theorem wX2_clause_J29 {p : Program} {l : Launch} {e : Env} {s : State} {m : MethodId} {args : Array Value} {below : List Frame} {meth : Method} {c : Code} {E : ME} (k : Nat) (z : MS) (x1 : Int32) (hC : mC E cX2_clause 5 (some .int) p s m args meth c) (y : Int32 × MS) (hE : fX2_clause_J29 k z x1 = some y) : mW p l e rmX2_clause s m args below meth c E 5 (mQ E below args s (some (.int y.1)) y.2) 29 [(0, .ref (E.2.2.2.1 0)), (1, .int x1)] [] z := by
  intro H locs ls hP hS hl
  have hx := hC.1
  have hb := hC.2.1
  have hown := hC.2.2.2.2.2.1
  have hts := hC.2.2.2.2.2.2.1
  unfold fX2_clause_J29 at hE
  refine lv_aload_n hx hb dX2_clause_29 rfl (lv_at hl 0 rfl) ?_
  refine gM_16 hC hP dX2_clause_30 ?_
  refine lv_aload_n hx hb dX2_clause_33 rfl (lv_at hl 0 rfl) ?_
  refine gM_136 hC hP dX2_clause_34 ?_
  obtain ⟨c_4, hE⟩ := og hE
  refine aM_2 hC hP c_4 dX2_clause_37 ?_
  refine lv_istore_n (lv' := [(2, .int (z.2.2.1 2 (z.1 12).toNatClampNeg)), (0, .ref (E.2.2.2.1 0)), (1, .int x1)]) hx hb dX2_clause_38 rfl hl (Nat.le_of_ble_eq_true rfl) rfl (fun ls hl => ?_)
  refine lv_iload_n hx hb dX2_clause_39 rfl (lv_at hl 0 rfl) ?_
  refine lv_bipush (v := 24) hx hb dX2_clause_40 (by decide) ?_
  refine lv_icmp_ne (tgt := 48) hx hb dX2_clause_42 (by decide) (fun c_5 => ?_) (fun c_5 => ?_)
  · have hE := iq c_5 hE
    refine lv_iload_n hx hb dX2_clause_48 rfl (lv_at hl 2 rfl) ?_
    refine lv_iconst (v := 1) hx hb dX2_clause_49 (by decide) ?_
    refine lv_icmp_gt (tgt := 65) hx hb dX2_clause_50 (by decide) (fun c_6 => ?_) (fun c_6 => ?_)
    · have hE := ip c_6 hE
      exact wX2_clause_J65 k z x1 (z.2.2.1 2 (z.1 12).toNatClampNeg) hC y hE H locs ls hP hS (lv_sub hl [1, 2, 0] rfl)
    · have hE := iq c_6 hE
      refine lv_aload_n hx hb dX2_clause_53 rfl (lv_at hl 1 rfl) ?_
      refine lv_dup hx hb dX2_clause_54 rfl ?_
      refine gM_232 hC hP dX2_clause_55 ?_
      refine lv_iconst (v := 1) hx hb dX2_clause_58 (by decide) ?_
      refine lv_iload_n hx hb dX2_clause_59 rfl (lv_at hl 2 rfl) ?_
      refine lv_ishl hx hb dX2_clause_60 ?_
      refine lv_ior hx hb dX2_clause_61 ?_
      obtain ⟨z_16, ez_16, hE⟩ := on hE
      refine pM_232 hC hP hS ez_16 dX2_clause_62 (fun H locs hP hS => ?_)
      exact wX2_clause_J65 k z_16 x1 (z.2.2.1 2 (z.1 12).toNatClampNeg) hC y hE H locs ls hP hS (lv_sub hl [1, 2, 0] rfl)
  · have hE := ip c_5 hE
    refine lv_bipush (v := 6) hx hb dX2_clause_45 (by decide) ?_
    obtain rfl := Option.some.inj hE
    exact m_iret hC hP hS dX2_clause_47
def fX2_clause (k : Nat) (z : MS)  : Option (Int32 × MS) := (fX2_sortOf z ).bind fun r_1 => if 0 ≤ r_1 then (if (1 : Int32) < r_1 then ((fX2_clause_J29 k z r_1)) else ((fX2_has (z.1 19) r_1).bind fun r_17 => if r_17 = 0 then ((fX2_clause_J29 k z r_1)) else (some ((4 : Int32), z)))) else (some ((1 : Int32), z))
set_option maxHeartbeats 1000000 in
theorem wX2_clause {l : Launch} {E : ME} (k : Nat) (z : MS)  (y : Int32 × MS) (hE : fX2_clause k z  = some y) : mM l yX2_clause (ws_ yX2_clause cX2_clause 5 (some .int)) rmX2_clause E z [] (some (.int y.1)) y.2 := by
  refine m_met (by decide) rfl (Nat.le_of_ble_eq_true rfl) (fun p e s m args below meth c hC => ?_)
  intro H locs ls hP hS hl
  have hx := hC.1
  have hb := hC.2.1
  have hown := hC.2.2.2.2.2.1
  have hts := hC.2.2.2.2.2.2.1
  have hl : lv_has ls 5 [(0, .ref (E.2.2.2.1 0))] := hl
  unfold fX2_clause at hE
  refine lv_aload_n hx hb dX2_clause_0 rfl (lv_at hl 0 rfl) ?_
  obtain ⟨r_1, h_1, hE⟩ := ob hE
  refine m_calli [] hC hP hS hl.1 (wX2_sortOf z  r_1 h_1) (cwV 0 hts lkX2_229 rfl rfl rfl cdX2_sortOf ⟨Nat.le_of_ble_eq_true rfl, Nat.le_of_ble_eq_true rfl⟩) rfl rfl (lv_room (Nat.le_of_ble_eq_true rfl)) dX2_clause_1 (fun H locs hP hS => ?_)
  refine lv_istore_n (lv' := [(1, .int r_1), (0, .ref (E.2.2.2.1 0))]) hx hb dX2_clause_4 rfl hl (Nat.le_of_ble_eq_true rfl) rfl (fun ls hl => ?_)
  refine lv_iload_n hx hb dX2_clause_5 rfl (lv_at hl 0 rfl) ?_
  refine lv_if_ge (tgt := 11) hx hb dX2_clause_6 (by decide) (fun c_2 => ?_) (fun c_2 => ?_)
  · have hE := ip c_2 hE
    refine lv_iload_n hx hb dX2_clause_11 rfl (lv_at hl 0 rfl) ?_
    refine lv_iconst (v := 1) hx hb dX2_clause_12 (by decide) ?_
    refine lv_icmp_gt (tgt := 29) hx hb dX2_clause_13 (by decide) (fun c_3 => ?_) (fun c_3 => ?_)
    · have hE := ip c_3 hE
      exact wX2_clause_J29 k z r_1 hC y hE H locs ls hP hS (lv_sub hl [1, 0] rfl)
    · have hE := iq c_3 hE
      refine lv_aload_n hx hb dX2_clause_16 rfl (lv_at hl 1 rfl) ?_
      refine gM_232 hC hP dX2_clause_17 ?_
      refine lv_iload_n hx hb dX2_clause_20 rfl (lv_at hl 0 rfl) ?_
      obtain ⟨r_17, h_17, hE⟩ := ob hE
      refine s_calli [.int (z.1 19), .int r_1] hC.sC hl.1 (wX2_has (z.1 19) r_1 r_17 h_17) (va_cwS 2 hts lkX2_235 rfl rfl rfl cdX2_has ⟨Nat.le_of_ble_eq_true rfl, Nat.le_of_ble_eq_true rfl⟩) rfl rfl (lv_room (Nat.le_of_ble_eq_true rfl)) ⟨Nat.zero_le _, Nat.zero_le _⟩ dX2_clause_21 ?_
      refine lv_if_eq (tgt := 29) hx hb dX2_clause_24 (by decide) (fun c_18 => ?_) (fun c_18 => ?_)
      · have hE := ip c_18 hE
        exact wX2_clause_J29 k z r_1 hC y hE H locs ls hP hS (lv_sub hl [1, 0] rfl)
      · have hE := iq c_18 hE
        refine lv_iconst (v := 4) hx hb dX2_clause_27 (by decide) ?_
        obtain rfl := Option.some.inj hE
        exact m_iret hC hP hS dX2_clause_28
  · have hE := iq c_2 hE
    refine lv_iconst (v := 1) hx hb dX2_clause_9 (by decide) ?_
    obtain rfl := Option.some.inj hE
    exact m_iret hC hP hS dX2_clause_10
def fX2_readText_B43 (k : Nat)  (a : MS) : Option (MS ⊕ (MS ⊕ (Int32 × MS))) := if (a.1 9) = 0 then (some (.inr (.inl a))) else ((fX2_clause k a ).bind fun r_9 => if r_9.1 = 0 then (some (.inl r_9.2)) else (some (.inr (.inr (r_9.1, r_9.2)))))
set_option maxHeartbeats 1000000 in
theorem wX2_readText_B43 {p : Program} {l : Launch} {e : Env} {s : State} {m : MethodId} {args : Array Value} {below : List Frame} {meth : Method} {c : Code} {E : ME} {Q : State → Prop} (k : Nat)  (hC : mC E cX2_readText 2 (some .int) p s m args meth c) (a : MS) (y : MS ⊕ (MS ⊕ (Int32 × MS))) (hE : fX2_readText_B43 k  a = some y) (hc : ∀ a : MS, y = .inl a → mW p l e rmX2_readText s m args below meth c E 2 Q 43 [(0, .ref (E.2.2.2.1 0))] [] a) (hx1 : ∀ b : MS, y = .inr (.inl b) → mW p l e rmX2_readText s m args below meth c E 2 Q 64 [] [] b) (hx2 : ∀ b : Int32 × MS, y = .inr (.inr b) → mW p l e rmX2_readText s m args below meth c E 2 Q 59 [(1, .int b.1)] [] b.2) : mW p l e rmX2_readText s m args below meth c E 2 Q 43 [(0, .ref (E.2.2.2.1 0))] [] a := by
  intro H locs ls hP hS hl
  have hx := hC.1
  have hb := hC.2.1
  have hown := hC.2.2.2.2.2.1
  have hts := hC.2.2.2.2.2.2.1
  unfold fX2_readText_B43 at hE
  refine lv_aload_n hx hb dX2_readText_43 rfl (lv_at hl 0 rfl) ?_
  refine gM_98 hC hP dX2_readText_44 ?_
  refine lv_if_eq (tgt := 64) hx hb dX2_readText_47 (by decide) (fun c_8 => ?_) (fun c_8 => ?_)
  · have hE := ip c_8 hE
    exact hx1 _ (Option.some.inj hE).symm H locs ls hP hS (lv_sub hl [] rfl)
  · have hE := iq c_8 hE
    refine lv_aload_n hx hb dX2_readText_50 rfl (lv_at hl 0 rfl) ?_
    obtain ⟨r_9, h_9, hE⟩ := ob hE
    refine m_calli [] hC hP hS hl.1 (wX2_clause k a  r_9 h_9) (cwV 0 hts lkX2_243 rfl rfl rfl cdX2_clause ⟨Nat.le_of_ble_eq_true rfl, Nat.le_of_ble_eq_true rfl⟩) rfl rfl (lv_room (Nat.le_of_ble_eq_true rfl)) dX2_readText_51 (fun H locs hP hS => ?_)
    refine lv_istore_n (lv' := [(1, .int r_9.1), (0, .ref (E.2.2.2.1 0))]) hx hb dX2_readText_54 rfl hl (Nat.le_of_ble_eq_true rfl) rfl (fun ls hl => ?_)
    refine lv_iload_n hx hb dX2_readText_55 rfl (lv_at hl 0 rfl) ?_
    refine lv_if_eq (tgt := 61) hx hb dX2_readText_56 (by decide) (fun c_10 => ?_) (fun c_10 => ?_)
    · have hE := ip c_10 hE
      refine lv_goto (tgt := 43) hx hb dX2_readText_61 (by decide) ?_
      exact hc _ (Option.some.inj hE).symm H locs ls hP hS (lv_sub hl [1] rfl)
    · have hE := iq c_10 hE
      exact hx2 _ (Option.some.inj hE).symm H locs ls hP hS (lv_sub hl [0] rfl)
def fX2_readText (k : Nat) (z : MS)  : Option (Int32 × MS) := nm (mI z 12 ((681 : Int32) * (z.2.2.1 0 (1 : Int32).toNatClampNeg))) fun z_2 => if ib (z_2.1 12) 2724 then none else (nm (mA z_2 2 (upd (z_2.2.2.1 2) (z_2.1 12).toNatClampNeg (0 : Int32))) fun z_3 => nm (mI z_3 13 (0 : Int32)) fun z_4 => nm (mI z_4 19 (0 : Int32)) fun z_5 => nm (mI z_5 7 (0 : Int32)) fun z_6 => (fX2_nextToken k z_6 ).bind fun r_7 => (lpo (fX2_readText_B43 k ) k r_7).bind fun x_11 => (Sum.elim (fun t_11 : MS => some ((0 : Int32), t_11)) (fun t_11 : Int32 × MS => some (t_11.1, t_11.2))) x_11)
set_option maxHeartbeats 1000000 in
theorem wX2_readText {l : Launch} {E : ME} (k : Nat) (z : MS)  (y : Int32 × MS) (hE : fX2_readText k z  = some y) : mM l yX2_readText (ws_ yX2_readText cX2_readText 2 (some .int)) rmX2_readText E z [] (some (.int y.1)) y.2 := by
  refine m_met (by decide) rfl (Nat.le_of_ble_eq_true rfl) (fun p e s m args below meth c hC => ?_)
  intro H locs ls hP hS hl
  have hx := hC.1
  have hb := hC.2.1
  have hown := hC.2.2.2.2.2.1
  have hts := hC.2.2.2.2.2.2.1
  have hl : lv_has ls 2 [(0, .ref (E.2.2.2.1 0))] := hl
  unfold fX2_readText at hE
  refine lv_aload_n hx hb dX2_readText_0 rfl (lv_at hl 0 rfl) ?_
  refine lv_sipush (v := 681) hx hb dX2_readText_1 (by decide) ?_
  refine lv_aload_n hx hb dX2_readText_4 rfl (lv_at hl 0 rfl) ?_
  refine gM_7 hC hP dX2_readText_5 ?_
  refine lv_iconst (v := 1) hx hb dX2_readText_8 (by decide) ?_
  refine aM_0 hC hP (i := (1 : Int32)) (by decide) dX2_readText_9 ?_
  refine lv_imul hx hb dX2_readText_10 ?_
  obtain ⟨z_2, ez_2, hE⟩ := on hE
  refine pM_136 hC hP hS ez_2 dX2_readText_11 (fun H locs hP hS => ?_)
  refine lv_aload_n hx hb dX2_readText_14 rfl (lv_at hl 0 rfl) ?_
  refine gM_16 hC hP dX2_readText_15 ?_
  refine lv_aload_n hx hb dX2_readText_18 rfl (lv_at hl 0 rfl) ?_
  refine gM_136 hC hP dX2_readText_19 ?_
  refine lv_iconst (v := 0) hx hb dX2_readText_22 (by decide) ?_
  obtain ⟨c_3, hE⟩ := og hE
  obtain ⟨z_3, ez_3, hE⟩ := on hE
  refine tM_2 hC hP hS c_3 ez_3 dX2_readText_23 (fun H locs hP hS => ?_)
  refine lv_aload_n hx hb dX2_readText_24 rfl (lv_at hl 0 rfl) ?_
  refine lv_iconst (v := 0) hx hb dX2_readText_25 (by decide) ?_
  obtain ⟨z_4, ez_4, hE⟩ := on hE
  refine pM_139 hC hP hS ez_4 dX2_readText_26 (fun H locs hP hS => ?_)
  refine lv_aload_n hx hb dX2_readText_29 rfl (lv_at hl 0 rfl) ?_
  refine lv_iconst (v := 0) hx hb dX2_readText_30 (by decide) ?_
  obtain ⟨z_5, ez_5, hE⟩ := on hE
  refine pM_232 hC hP hS ez_5 dX2_readText_31 (fun H locs hP hS => ?_)
  refine lv_aload_n hx hb dX2_readText_34 rfl (lv_at hl 0 rfl) ?_
  refine lv_iconst (v := 0) hx hb dX2_readText_35 (by decide) ?_
  obtain ⟨z_6, ez_6, hE⟩ := on hE
  refine pM_88 hC hP hS ez_6 dX2_readText_36 (fun H locs hP hS => ?_)
  refine lv_aload_n hx hb dX2_readText_39 rfl (lv_at hl 0 rfl) ?_
  obtain ⟨r_7, h_7, hE⟩ := ob hE
  refine m_callv [] hC hP hS hl.1 (wX2_nextToken k z_6  r_7 h_7) (cwV 0 hts lkX2_165 rfl rfl rfl cdX2_nextToken ⟨Nat.le_of_ble_eq_true rfl, Nat.le_of_ble_eq_true rfl⟩) rfl rfl (lv_room (Nat.le_of_ble_eq_true rfl)) dX2_readText_40 (fun H locs hP hS => ?_)
  obtain ⟨x_11, h_11, hE⟩ := ob hE
  refine lpo_walk (fun p_11 : MS => mW p l e rmX2_readText s m args below meth c E 2 (mQ E below args s (some (.int y.1)) y.2) 43 [(0, .ref (E.2.2.2.1 0))] [] p_11) (fun q_11 : (MS ⊕ (Int32 × MS)) => (∀ t_11 : MS, q_11 = (.inl t_11) → mW p l e rmX2_readText s m args below meth c E 2 (mQ E below args s (some (.int y.1)) y.2) 64 [] [] t_11) ∧ (∀ t_11 : Int32 × MS, q_11 = (.inr t_11) → mW p l e rmX2_readText s m args below meth c E 2 (mQ E below args s (some (.int y.1)) y.2) 59 [(1, .int t_11.1)] [] t_11.2)) (fun a_11 y_11 hB_11 hc_11 hx_11 => wX2_readText_B43 k  hC a_11 y_11 hB_11 hc_11 (fun t_11 e_11 => (hx_11 _ e_11).1 t_11 rfl) (fun t_11 e_11 => (hx_11 _ e_11).2 t_11 rfl)) _ _ x_11 h_11 ?_ H locs ls hP hS hl
  refine ⟨?_, ?_⟩
  · intro t_11 e_11
    subst e_11
    have hE := oel hE
    intro H locs ls hP hS hl
    refine lv_iconst (v := 0) hx hb dX2_readText_64 (by decide) ?_
    obtain rfl := Option.some.inj hE
    exact m_iret hC hP hS dX2_readText_65
  · intro t_11 e_11
    subst e_11
    have hE := oer hE
    intro H locs ls hP hS hl
    refine lv_iload_n hx hb dX2_readText_59 rfl (lv_at hl 0 rfl) ?_
    obtain rfl := Option.some.inj hE
    exact m_iret hC hP hS dX2_readText_60
def fX2_text_J36 (k : Nat) (z : MS) (t0 : Int32) : Option (Int32 × MS) := nm (mI z 6 t0) fun z_6 => nm (mI z_6 4 (0 : Int32)) fun z_7 => if (z_7.1 5) = 0 then (nm (mA z_7 0 (upd (z_7.2.2.1 0) (1 : Int32).toNatClampNeg ((z_7.2.2.1 0 (1 : Int32).toNatClampNeg) + (1 : Int32)))) fun z_10 => some (((z_10.2.2.1 0 (1 : Int32).toNatClampNeg) - (1 : Int32)), z_10)) else (some ((-1 : Int32), z_7))
set_option maxHeartbeats 1000000 in
theorem wX2_text_J36 {p : Program} {l : Launch} {e : Env} {s : State} {m : MethodId} {args : Array Value} {below : List Frame} {meth : Method} {c : Code} {E : ME} (k : Nat) (z : MS) (t0 : Int32) (hC : mC E cX2_text 1 (some .int) p s m args meth c) (y : Int32 × MS) (hE : fX2_text_J36 k z t0 = some y) : mW p l e rmX2_text s m args below meth c E 1 (mQ E below args s (some (.int y.1)) y.2) 36 [(0, .ref (E.2.2.2.1 0))] [.int t0, .ref (E.2.2.2.1 0)] z := by
  intro H locs ls hP hS hl
  have hx := hC.1
  have hb := hC.2.1
  have hown := hC.2.2.2.2.2.1
  have hts := hC.2.2.2.2.2.2.1
  unfold fX2_text_J36 at hE
  obtain ⟨z_6, ez_6, hE⟩ := on hE
  refine pM_26 hC hP hS ez_6 dX2_text_36 (fun H locs hP hS => ?_)
  refine lv_aload_n hx hb dX2_text_39 rfl (lv_at hl 0 rfl) ?_
  refine lv_iconst (v := 0) hx hb dX2_text_40 (by decide) ?_
  obtain ⟨z_7, ez_7, hE⟩ := on hE
  refine pM_81 hC hP hS ez_7 dX2_text_41 (fun H locs hP hS => ?_)
  refine lv_aload_n hx hb dX2_text_44 rfl (lv_at hl 0 rfl) ?_
  refine gM_22 hC hP dX2_text_45 ?_
  refine lv_if_eq (tgt := 53) hx hb dX2_text_48 (by decide) (fun c_8 => ?_) (fun c_8 => ?_)
  · have hE := ip c_8 hE
    refine lv_aload_n hx hb dX2_text_53 rfl (lv_at hl 0 rfl) ?_
    refine gM_7 hC hP dX2_text_54 ?_
    refine lv_iconst (v := 1) hx hb dX2_text_57 (by decide) ?_
    refine lv_dup2_11 hx hb dX2_text_58 rfl rfl ?_
    refine aM_0 hC hP (i := (1 : Int32)) (by decide) dX2_text_59 ?_
    refine lv_iconst (v := 1) hx hb dX2_text_60 (by decide) ?_
    refine lv_iadd hx hb dX2_text_61 ?_
    obtain ⟨z_10, ez_10, hE⟩ := on hE
    refine tM_0 hC hP hS (i := (1 : Int32)) (by decide) ez_10 dX2_text_62 (fun H locs hP hS => ?_)
    refine lv_aload_n hx hb dX2_text_63 rfl (lv_at hl 0 rfl) ?_
    refine gM_7 hC hP dX2_text_64 ?_
    refine lv_iconst (v := 1) hx hb dX2_text_67 (by decide) ?_
    refine aM_0 hC hP (i := (1 : Int32)) (by decide) dX2_text_68 ?_
    refine lv_iconst (v := 1) hx hb dX2_text_69 (by decide) ?_
    refine lv_isub hx hb dX2_text_70 ?_
    obtain rfl := Option.some.inj hE
    exact m_iret hC hP hS dX2_text_71
  · have hE := iq c_8 hE
    refine lv_iconst (v := -1) hx hb dX2_text_51 (by decide) ?_
    obtain rfl := Option.some.inj hE
    exact m_iret hC hP hS dX2_text_52
def fX2_text (k : Nat) (z : MS)  : Option (Int32 × MS) := if (z.2.2.1 0 (1 : Int32).toNatClampNeg) = (4 : Int32) then (some ((-1 : Int32), z)) else ((fX2_readText k z ).bind fun r_3 => nm (mI r_3.2 5 r_3.1) fun z_4 => if (z_4.1 5) = 0 then ((fX2_text_J36 k z_4 (-1 : Int32))) else ((fX2_text_J36 k z_4 (z_4.1 8))))
set_option maxHeartbeats 1000000 in
theorem wX2_text {l : Launch} {E : ME} (k : Nat) (z : MS)  (y : Int32 × MS) (hE : fX2_text k z  = some y) : mM l yX2_text (ws_ yX2_text cX2_text 1 (some .int)) rmX2_text E z [] (some (.int y.1)) y.2 := by
  refine m_met (by decide) rfl (Nat.le_of_ble_eq_true rfl) (fun p e s m args below meth c hC => ?_)
  intro H locs ls hP hS hl
  have hx := hC.1
  have hb := hC.2.1
  have hown := hC.2.2.2.2.2.1
  have hts := hC.2.2.2.2.2.2.1
  have hl : lv_has ls 1 [(0, .ref (E.2.2.2.1 0))] := hl
  unfold fX2_text at hE
  refine lv_aload_n hx hb dX2_text_0 rfl (lv_at hl 0 rfl) ?_
  refine gM_7 hC hP dX2_text_1 ?_
  refine lv_iconst (v := 1) hx hb dX2_text_4 (by decide) ?_
  refine aM_0 hC hP (i := (1 : Int32)) (by decide) dX2_text_5 ?_
  refine lv_iconst (v := 4) hx hb dX2_text_6 (by decide) ?_
  refine lv_icmp_ne (tgt := 12) hx hb dX2_text_7 (by decide) (fun c_2 => ?_) (fun c_2 => ?_)
  · have hE := iq c_2 hE
    refine lv_aload_n hx hb dX2_text_12 rfl (lv_at hl 0 rfl) ?_
    refine lv_aload_n hx hb dX2_text_13 rfl (lv_at hl 0 rfl) ?_
    obtain ⟨r_3, h_3, hE⟩ := ob hE
    refine m_calli [] hC hP hS hl.1 (wX2_readText k z  r_3 h_3) (cwV 0 hts lkX2_246 rfl rfl rfl cdX2_readText ⟨Nat.le_of_ble_eq_true rfl, Nat.le_of_ble_eq_true rfl⟩) rfl rfl (lv_room (Nat.le_of_ble_eq_true rfl)) dX2_text_14 (fun H locs hP hS => ?_)
    obtain ⟨z_4, ez_4, hE⟩ := on hE
    refine pM_22 hC hP hS ez_4 dX2_text_17 (fun H locs hP hS => ?_)
    refine lv_aload_n hx hb dX2_text_20 rfl (lv_at hl 0 rfl) ?_
    refine lv_aload_n hx hb dX2_text_21 rfl (lv_at hl 0 rfl) ?_
    refine gM_22 hC hP dX2_text_22 ?_
    refine lv_if_ne (tgt := 32) hx hb dX2_text_25 (by decide) (fun c_5 => ?_) (fun c_5 => ?_)
    · have hE := iq c_5 hE
      refine lv_aload_n hx hb dX2_text_32 rfl (lv_at hl 0 rfl) ?_
      refine gM_95 hC hP dX2_text_33 ?_
      exact wX2_text_J36 k z_4 (z_4.1 8) hC y hE H locs ls hP hS hl
    · have hE := ip c_5 hE
      refine lv_iconst (v := -1) hx hb dX2_text_28 (by decide) ?_
      refine lv_goto (tgt := 36) hx hb dX2_text_29 (by decide) ?_
      exact wX2_text_J36 k z_4 (-1 : Int32) hC y hE H locs ls hP hS hl
  · have hE := ip c_2 hE
    refine lv_iconst (v := -1) hx hb dX2_text_10 (by decide) ?_
    obtain rfl := Option.some.inj hE
    exact m_iret hC hP hS dX2_text_11
def fX2_fault (z : MS) (x1 : Int32) : Option Int32 := if x1 = 0 then (some (z.1 5)) else (if x1 = (1 : Int32) then (some (z.1 6)) else (some (-1 : Int32)))
set_option maxHeartbeats 1000000 in
theorem wX2_fault {l : Launch} {E : ME} (z : MS) (x1 : Int32) (y : Int32) (hE : fX2_fault z x1 = some y) : mM l yX2_fault (ws_ yX2_fault cX2_fault 2 (some .int)) rmX2_fault E z [.int x1] (some (.int y)) z := by
  refine m_met (by decide) rfl (Nat.le_of_ble_eq_true rfl) (fun p e s m args below meth c hC => ?_)
  intro H locs ls hP hS hl
  have hx := hC.1
  have hb := hC.2.1
  have hown := hC.2.2.2.2.2.1
  have hts := hC.2.2.2.2.2.2.1
  have hl : lv_has ls 2 [(0, .ref (E.2.2.2.1 0)), (1, .int x1)] := hl
  unfold fX2_fault at hE
  refine lv_iload_n hx hb dX2_fault_0 rfl (lv_at hl 1 rfl) ?_
  refine lv_if_ne (tgt := 11) hx hb dX2_fault_1 (by decide) (fun c_1 => ?_) (fun c_1 => ?_)
  · have hE := iq c_1 hE
    refine lv_iload_n hx hb dX2_fault_11 rfl (lv_at hl 1 rfl) ?_
    refine lv_iconst (v := 1) hx hb dX2_fault_12 (by decide) ?_
    refine lv_icmp_ne (tgt := 23) hx hb dX2_fault_13 (by decide) (fun c_2 => ?_) (fun c_2 => ?_)
    · have hE := iq c_2 hE
      refine lv_iconst (v := -1) hx hb dX2_fault_23 (by decide) ?_
      obtain rfl := Option.some.inj hE
      exact m_iret hC hP hS dX2_fault_24
    · have hE := ip c_2 hE
      refine lv_aload_n hx hb dX2_fault_16 rfl (lv_at hl 0 rfl) ?_
      refine gM_26 hC hP dX2_fault_17 ?_
      refine lv_goto (tgt := 24) hx hb dX2_fault_20 (by decide) ?_
      obtain rfl := Option.some.inj hE
      exact m_iret hC hP hS dX2_fault_24
  · have hE := ip c_1 hE
    refine lv_aload_n hx hb dX2_fault_4 rfl (lv_at hl 0 rfl) ?_
    refine gM_22 hC hP dX2_fault_5 ?_
    refine lv_goto (tgt := 24) hx hb dX2_fault_8 (by decide) ?_
    obtain rfl := Option.some.inj hE
    exact m_iret hC hP hS dX2_fault_24
def fX2_by (z : MS) (x1 : Int32) : Option (Int32 × MS) := (fX2_isIn x1 (-1 : Int32) ((z.2.2.1 0 (1 : Int32).toNatClampNeg) - (1 : Int32))).bind fun r_2 => if r_2 = 0 then (some ((0 : Int32), z)) else (nm (mA z 0 (upd (z.2.2.1 0) (2 : Int32).toNatClampNeg x1)) fun z_4 => some ((1 : Int32), z_4))
set_option maxHeartbeats 1000000 in
theorem wX2_by {l : Launch} {E : ME} (z : MS) (x1 : Int32) (y : Int32 × MS) (hE : fX2_by z x1 = some y) : mM l yX2_by (ws_ yX2_by cX2_by 2 (some .boolean)) rmX2_by E z [.int x1] (some (.int y.1)) y.2 := by
  refine m_met (by decide) rfl (Nat.le_of_ble_eq_true rfl) (fun p e s m args below meth c hC => ?_)
  intro H locs ls hP hS hl
  have hx := hC.1
  have hb := hC.2.1
  have hown := hC.2.2.2.2.2.1
  have hts := hC.2.2.2.2.2.2.1
  have hl : lv_has ls 2 [(0, .ref (E.2.2.2.1 0)), (1, .int x1)] := hl
  unfold fX2_by at hE
  refine lv_iload_n hx hb dX2_by_0 rfl (lv_at hl 1 rfl) ?_
  refine lv_iconst (v := -1) hx hb dX2_by_1 (by decide) ?_
  refine lv_aload_n hx hb dX2_by_2 rfl (lv_at hl 0 rfl) ?_
  refine gM_7 hC hP dX2_by_3 ?_
  refine lv_iconst (v := 1) hx hb dX2_by_6 (by decide) ?_
  refine aM_0 hC hP (i := (1 : Int32)) (by decide) dX2_by_7 ?_
  refine lv_iconst (v := 1) hx hb dX2_by_8 (by decide) ?_
  refine lv_isub hx hb dX2_by_9 ?_
  obtain ⟨r_2, h_2, hE⟩ := ob hE
  refine s_calli [.int x1, .int (-1 : Int32), .int ((z.2.2.1 0 (1 : Int32).toNatClampNeg) - (1 : Int32))] hC.sC hl.1 (wX2_isIn x1 (-1 : Int32) ((z.2.2.1 0 (1 : Int32).toNatClampNeg) - (1 : Int32)) r_2 h_2) (va_cwS 3 hts lkX2_69 rfl rfl rfl cdX2_isIn ⟨Nat.le_of_ble_eq_true rfl, Nat.le_of_ble_eq_true rfl⟩) rfl rfl (lv_room (Nat.le_of_ble_eq_true rfl)) ⟨Nat.zero_le _, Nat.zero_le _⟩ dX2_by_10 ?_
  refine lv_if_ne (tgt := 18) hx hb dX2_by_13 (by decide) (fun c_3 => ?_) (fun c_3 => ?_)
  · have hE := iq c_3 hE
    refine lv_aload_n hx hb dX2_by_18 rfl (lv_at hl 0 rfl) ?_
    refine gM_7 hC hP dX2_by_19 ?_
    refine lv_iconst (v := 2) hx hb dX2_by_22 (by decide) ?_
    refine lv_iload_n hx hb dX2_by_23 rfl (lv_at hl 1 rfl) ?_
    obtain ⟨z_4, ez_4, hE⟩ := on hE
    refine tM_0 hC hP hS (i := (2 : Int32)) (by decide) ez_4 dX2_by_24 (fun H locs hP hS => ?_)
    refine lv_iconst (v := 1) hx hb dX2_by_25 (by decide) ?_
    obtain rfl := Option.some.inj hE
    exact m_zret (v := (1 : Int32)) hC hP hS (by decide) dX2_by_26
  · have hE := ip c_3 hE
    refine lv_iconst (v := 0) hx hb dX2_by_16 (by decide) ?_
    obtain rfl := Option.some.inj hE
    exact m_zret (v := (0 : Int32)) hC hP hS (by decide) dX2_by_17
