/-! RailingsCount.leftBy: a temporary array through a loop -/
set_option maxRecDepth 100000
noncomputable def fX0_leftBy_B12 (k : Nat) (v1 : Int32) (v2 : Int32) (v3 : Int32) (w : XS) (a : Int32 × Int32 × (Nat → Int32)) : Option ((Int32 × Int32 × (Nat → Int32)) ⊕ Int32) := if (4096 : Int32) ≤ a.2.1 then some (.inr a.1) else ((fX0_canBe k w a.2.1 v1).bind fun r => if r = 0 then some (.inl (a.1, (a.2.1 + (1 : Int32)), a.2.2)) else ((fX0_barsOf a.2.1 v2 v3).bind fun b => if ib b 13 then none else (nm (upd a.2.2 b.toNatClampNeg ((a.2.2 b.toNatClampNeg) + (1 : Int32))) fun f => some (.inl ((if a.1 < (f b.toNatClampNeg) then (f b.toNatClampNeg) else a.1), (a.2.1 + (1 : Int32)), f)))))
def tW (p : Program) (l : Launch) (e : Env) (R : Room) (s : State) (m : MethodId) (args : Array Value) (below : List Frame) (meth : Method) (c : Code) (E : XE) (nL : Nat) (Q : State → Prop) (rc rs : Nat) (pc : Nat) (lv : List (Nat × Value)) (st : List Value) (z : XS) (q n : Nat) (f : Nat → Int32) : Prop :=
  ∀ (H : Heap) (locs : List Loc) (cells slots : Nat) (ls : Array Slot), va_P E.1 E.2.1 (xw E z) H → va_S (xF E s.heap.size) s.heap H locs → (cells + rc ≤ R.cells ∧ slots + rs ≤ R.slots) → xTmp E s q n f H → lv_has ls nL lv → W p l e R s m args below meth c H locs cells slots Q (F0 m pc ls st)
set_option maxHeartbeats 1000000 in
theorem wX0_leftBy_B12 {p : Program} {l : Launch} {e : Env} {s : State} {m : MethodId} {args : Array Value} {below : List Frame} {meth : Method} {c : Code} {E : XE} {Q : State → Prop} (k : Nat) (v1 : Int32) (v2 : Int32) (v3 : Int32) (w : XS) (q : Nat) (hC : xC E RX0 cX0_leftBy 8 (some .int) p s m args meth c) (a : Int32 × Int32 × (Nat → Int32)) (y : (Int32 × Int32 × (Nat → Int32)) ⊕ Int32) (hE : fX0_leftBy_B12 k v1 v2 v3 w a = some y)
    (hc : ∀ a : Int32 × Int32 × (Nat → Int32), y = .inl a → tW p l e rmX0_leftBy s m args below meth c E 8 Q 0 0 12 [(0, .ref (E.2.2.1 0)), (1, .int v1), (2, .int v2), (3, .int v3), (4, .ref q), (5, .int a.1), (6, .int a.2.1)] [] w q 13 a.2.2)
    (hx1 : ∀ b : Int32, y = .inr b → xW p l e rmX0_leftBy s m args below meth c E 8 Q 0 0 69 [(5, .int b)] [] w) : tW p l e rmX0_leftBy s m args below meth c E 8 Q 0 0 12 [(0, .ref (E.2.2.1 0)), (1, .int v1), (2, .int v2), (3, .int v3), (4, .ref q), (5, .int a.1), (6, .int a.2.1)] [] w q 13 a.2.2 := by
  intro H locs cells slots ls hP hS hB hT hl
  have hx := hC.1
  have hb := hC.2.1
  have hown := hC.2.2.2.2.2.1
  have hts := hC.2.2.2.2.2.2.1
  unfold fX0_leftBy_B12 at hE
  refine lv_iload hx hb dX0_leftBy_12 (lv_at hl 6 rfl) ?_
  refine lv_sipush (v := 4096) hx hb dX0_leftBy_14 (by decide) ?_
  refine lv_icmp_ge (tgt := 69) hx hb dX0_leftBy_17 (by decide) (fun c_1 => ?_) (fun c_1 => ?_)
  · have hE := ip c_1 hE
    exact hx1 _ (Option.some.inj hE).symm H locs cells slots ls hP hS hB (lv_sub hl [5] rfl)
  · have hE := iq c_1 hE
    refine lv_aload_n hx hb dX0_leftBy_20 rfl (lv_at hl 0 rfl) ?_
    refine lv_iload hx hb dX0_leftBy_21 (lv_at hl 6 rfl) ?_
    refine lv_iload_n hx hb dX0_leftBy_23 rfl (lv_at hl 1 rfl) ?_
    obtain ⟨r, h_r, hE⟩ := ob hE
    refine t_callV (rc1 := _) (rs1 := _) [.int a.2.1, .int v1] (E.2.2.1 0) hC hP hS hB hT hl.1 (wX0_canBe k w a.2.1 v1 r h_r) (xC.c0 hC) (xw_get E _ (k := 0) (by decide)) (cwV 2 hts lkX0_334 rfl rfl rfl cdX0_canBe ⟨Nat.le_of_ble_eq_true rfl, Nat.le_of_ble_eq_true rfl⟩) rfl rfl (lv_room (Nat.le_of_ble_eq_true rfl)) ⟨Nat.le_of_eq (Nat.zero_add _), Nat.le_of_eq (Nat.zero_add _)⟩ dX0_leftBy_24 (fun H locs cells slots hP hS hB hT => ?_)
    show W p l e _ s m args below meth c H locs cells slots _ (F0 m _ ls (.int r :: []))
    refine lv_if_ne (tgt := 33) hx hb dX0_leftBy_27 (by decide) (fun c_2 => ?_) (fun c_2 => ?_)
    · have hE := iq c_2 hE
      refine lv_iload hx hb dX0_leftBy_33 (lv_at hl 6 rfl) ?_
      refine lv_iload_n hx hb dX0_leftBy_35 rfl (lv_at hl 2 rfl) ?_
      refine lv_iload_n hx hb dX0_leftBy_36 rfl (lv_at hl 3 rfl) ?_
      obtain ⟨b, h_b, hE⟩ := ob hE
      refine s_calli [.int a.2.1, .int v2, .int v3] hC.sC hl.1 (wX0_barsOf a.2.1 v2 v3 b h_b) (va_cwS 3 hts lkX0_327 rfl rfl rfl cdX0_barsOf ⟨Nat.le_of_ble_eq_true rfl, Nat.le_of_ble_eq_true rfl⟩) rfl rfl (lv_room (Nat.le_of_ble_eq_true rfl)) (hB0 hB) dX0_leftBy_37 ?_
      refine lv_istore (lv' := [(7, .int b), (0, .ref (E.2.2.1 0)), (1, .int v1), (2, .int v2), (3, .int v3), (4, .ref q), (5, .int a.1), (6, .int a.2.1)]) hx hb dX0_leftBy_40 hl (Nat.le_of_ble_eq_true rfl) rfl (fun ls hl => ?_)
      refine lv_aload hx hb dX0_leftBy_42 (lv_at hl 5 rfl) ?_
      refine lv_iload hx hb dX0_leftBy_44 (lv_at hl 0 rfl) ?_
      refine lv_dup2_11 hx hb dX0_leftBy_46 rfl rfl ?_
      obtain ⟨c_3, hE⟩ := og hE
      refine t_ald hC hP hT c_3 dX0_leftBy_47 ?_
      refine lv_iconst (v := 1) hx hb dX0_leftBy_48 (by decide) ?_
      refine lv_iadd hx hb dX0_leftBy_49 ?_
      obtain ⟨f, ef, hE⟩ := on hE
      refine t_ast hC hP hS hT c_3 ef dX0_leftBy_50 (fun H locs hP hS hT => ?_)
      refine lv_iload hx hb dX0_leftBy_51 (lv_at hl 6 rfl) ?_
      refine lv_aload hx hb dX0_leftBy_53 (lv_at hl 5 rfl) ?_
      refine lv_iload hx hb dX0_leftBy_55 (lv_at hl 0 rfl) ?_
      refine t_ald hC hP hT c_3 dX0_leftBy_57 ?_
      refine va_mmax hx hb (hC.2.2.2.2.1.trans hl.1.symm) hown (hts _ q1254) (hts _ q625) (hts _ q135) (hts _ q626) (Nat.le_of_ble_eq_true rfl) (Nat.le_of_ble_eq_true rfl) (Nat.le_trans (Nat.le_add_right _ _) hB.1) (Nat.le_trans (Nat.le_add_right _ _) hB.2) dX0_leftBy_58 ?_
      refine lv_istore (lv' := [(5, .int (if a.1 < (f b.toNatClampNeg) then (f b.toNatClampNeg) else a.1)), (7, .int b), (0, .ref (E.2.2.1 0)), (1, .int v1), (2, .int v2), (3, .int v3), (4, .ref q), (6, .int a.2.1)]) hx hb dX0_leftBy_61 hl (Nat.le_of_ble_eq_true rfl) rfl (fun ls hl => ?_)
      refine lv_iinc (v := (a.2.1 + (1 : Int32))) (lv' := [(6, .int (a.2.1 + (1 : Int32))), (5, .int (if a.1 < (f b.toNatClampNeg) then (f b.toNatClampNeg) else a.1)), (7, .int b), (0, .ref (E.2.2.1 0)), (1, .int v1), (2, .int v2), (3, .int v3), (4, .ref q)]) hx hb dX0_leftBy_63 hl (k := 7) rfl rfl (Nat.le_of_ble_eq_true rfl) rfl (fun ls hl => ?_)
      refine lv_goto (tgt := 12) hx hb dX0_leftBy_66 (by decide) ?_
      exact hc _ (Option.some.inj hE).symm H locs cells slots ls hP hS hB hT (lv_sub hl [3, 4, 5, 6, 7, 1, 0] rfl)
    · have hE := ip c_2 hE
      refine lv_goto (tgt := 63) hx hb dX0_leftBy_30 (by decide) ?_
      refine lv_iinc (v := (a.2.1 + (1 : Int32))) (lv' := [(6, .int (a.2.1 + (1 : Int32))), (0, .ref (E.2.2.1 0)), (1, .int v1), (2, .int v2), (3, .int v3), (4, .ref q), (5, .int a.1)]) hx hb dX0_leftBy_63 hl (k := 6) rfl rfl (Nat.le_of_ble_eq_true rfl) rfl (fun ls hl => ?_)
      refine lv_goto (tgt := 12) hx hb dX0_leftBy_66 (by decide) ?_
      exact hc _ (Option.some.inj hE).symm H locs cells slots ls hP hS hB hT (lv_sub hl [1, 2, 3, 4, 5, 6, 0] rfl)
noncomputable def fX0_leftBy (k : Nat) (z : XS) (x1 : Int32) (x2 : Int32) (x3 : Int32) : Option Int32 := (lpo (fX0_leftBy_B12 k x1 x2 x3 z) k ((0 : Int32), (0 : Int32), (fun _ => (0 : Int32)))).bind fun x => some x
set_option maxHeartbeats 1000000 in
theorem wX0_leftBy {l : Launch} {E : XE} (k : Nat) (z : XS) (x1 : Int32) (x2 : Int32) (x3 : Int32) (y : Int32) (hE : fX0_leftBy k z x1 x2 x3 = some y) : xM l yX0_leftBy (ws_ yX0_leftBy cX0_leftBy 8 (some .int)) rmX0_leftBy E z [.ref (E.2.2.1 0), .int x1, .int x2, .int x3] (some (.int y)) z := by
  refine x_met (own := RX0) (by decide) rfl (Nat.le_of_ble_eq_true rfl) (fun p e s m args below meth c hC => ?_)
  intro H locs cells slots ls hP hS hB hl
  have hx := hC.1
  have hb := hC.2.1
  have hown := hC.2.2.2.2.2.1
  have hts := hC.2.2.2.2.2.2.1
  have hl : lv_has ls 8 [(0, .ref (E.2.2.1 0)), (1, .int x1), (2, .int x2), (3, .int x3)] := hl
  unfold fX0_leftBy at hE
  refine lv_bipush (v := 13) hx hb dX0_leftBy_0 (by decide) ?_
  refine t_new (rc1 := 0) (rs1 := 0) (n := 13) hC hP hS hB (by decide) rfl (by decide) ⟨Nat.le_of_ble_eq_true rfl, Nat.le_of_ble_eq_true rfl⟩ dX0_leftBy_2 (fun q H cells slots hP hS hB hT => ?_)
  refine lv_astore (lv' := [(4, .ref q), (0, .ref (E.2.2.1 0)), (1, .int x1), (2, .int x2), (3, .int x3)]) hx hb dX0_leftBy_4 hl (Nat.le_of_ble_eq_true rfl) rfl (fun ls hl => ?_)
  refine lv_iconst (v := 0) hx hb dX0_leftBy_6 (by decide) ?_
  refine lv_istore (lv' := [(5, .int 0), (4, .ref q), (0, .ref (E.2.2.1 0)), (1, .int x1), (2, .int x2), (3, .int x3)]) hx hb dX0_leftBy_7 hl (Nat.le_of_ble_eq_true rfl) rfl (fun ls hl => ?_)
  refine lv_iconst (v := 0) hx hb dX0_leftBy_9 (by decide) ?_
  refine lv_istore (lv' := [(6, .int 0), (5, .int 0), (4, .ref q), (0, .ref (E.2.2.1 0)), (1, .int x1), (2, .int x2), (3, .int x3)]) hx hb dX0_leftBy_10 hl (Nat.le_of_ble_eq_true rfl) rfl (fun ls hl => ?_)
  obtain ⟨x_2, h_2, hE⟩ := ob hE
  refine lpo_walk (fun a : Int32 × Int32 × (Nat → Int32) => tW p l e rmX0_leftBy s m args below meth c E 8 (xQ E rmX0_leftBy below args s (some (.int y)) z) 0 0 12 [(0, .ref (E.2.2.1 0)), (1, .int x1), (2, .int x2), (3, .int x3), (4, .ref q), (5, .int a.1), (6, .int a.2.1)] [] z q 13 a.2.2) (fun b : Int32 => xW p l e rmX0_leftBy s m args below meth c E 8 (xQ E rmX0_leftBy below args s (some (.int y)) z) 0 0 69 [(5, .int b)] [] z) (fun a9 y9 hB9 hc9 hx9 => wX0_leftBy_B12 k x1 x2 x3 z q hC a9 y9 hB9 hc9 hx9) _ _ x_2 h_2 ?_ H locs cells slots ls hP hS hB hT (lv_sub hl [3, 4, 5, 6, 2, 1, 0] rfl)
  intro H locs cells slots ls hP hS hB hl
  refine lv_iload hx hb dX0_leftBy_69 (lv_at hl 0 rfl) ?_
  obtain rfl := Option.some.inj hE
  exact x_iret hC hP hS hB dX0_leftBy_71
