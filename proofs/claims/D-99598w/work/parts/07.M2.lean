set_option maxRecDepth 100000
def fX2_undo_B37 (k : Nat) (v1 : Int32) (a : Int32 × MS) : Option ((Int32 × MS) ⊕ MS) := if (70 : Int32) ≤ a.1 then (some (.inr a.2)) else (if ib ((v1 + (1 : Int32)) + a.1) 3205 then none else (if ib ((6 : Int32) + a.1) 3205 then none else (nm (mA a.2 0 (upd (a.2.2.2.1 0) ((6 : Int32) + a.1).toNatClampNeg (a.2.2.2.1 0 ((v1 + (1 : Int32)) + a.1).toNatClampNeg))) fun z_9 => some (.inl ((a.1 + (1 : Int32)), z_9)))))
set_option maxHeartbeats 1000000 in
theorem wX2_undo_B37 {p : Program} {l : Launch} {e : Env} {s : State} {m : MethodId} {args : Array Value} {below : List Frame} {meth : Method} {c : Code} {E : ME} {Q : State → Prop} (k : Nat) (v1 : Int32) (hC : mC E cX2_undo 3 (some .int) p s m args meth c) (a : Int32 × MS) (y : (Int32 × MS) ⊕ MS) (hE : fX2_undo_B37 k v1 a = some y) (hc : ∀ a : Int32 × MS, y = .inl a → mW p l e rmX2_undo s m args below meth c E 3 Q 37 [(0, .ref (E.2.2.2.1 0)), (1, .int v1), (2, .int a.1)] [] a.2) (hx1 : ∀ b : MS, y = .inr b → mW p l e rmX2_undo s m args below meth c E 3 Q 68 [(0, .ref (E.2.2.2.1 0)), (1, .int v1)] [] b) : mW p l e rmX2_undo s m args below meth c E 3 Q 37 [(0, .ref (E.2.2.2.1 0)), (1, .int v1), (2, .int a.1)] [] a.2 := by
  intro H locs ls hP hS hl
  have hx := hC.1
  have hb := hC.2.1
  have hown := hC.2.2.2.2.2.1
  have hts := hC.2.2.2.2.2.2.1
  unfold fX2_undo_B37 at hE
  refine lv_iload_n hx hb dX2_undo_37 rfl (lv_at hl 2 rfl) ?_
  refine lv_bipush (v := 70) hx hb dX2_undo_38 (by decide) ?_
  refine lv_icmp_ge (tgt := 68) hx hb dX2_undo_40 (by decide) (fun c_7 => ?_) (fun c_7 => ?_)
  · have hE := ip c_7 hE
    exact hx1 _ (Option.some.inj hE).symm H locs ls hP hS (lv_sub hl [0, 1] rfl)
  · have hE := iq c_7 hE
    refine lv_aload_n hx hb dX2_undo_43 rfl (lv_at hl 0 rfl) ?_
    refine gM_7 hC hP dX2_undo_44 ?_
    refine lv_bipush (v := 6) hx hb dX2_undo_47 (by decide) ?_
    refine lv_iload_n hx hb dX2_undo_49 rfl (lv_at hl 2 rfl) ?_
    refine lv_iadd hx hb dX2_undo_50 ?_
    refine lv_aload_n hx hb dX2_undo_51 rfl (lv_at hl 0 rfl) ?_
    refine gM_7 hC hP dX2_undo_52 ?_
    refine lv_iload_n hx hb dX2_undo_55 rfl (lv_at hl 1 rfl) ?_
    refine lv_iconst (v := 1) hx hb dX2_undo_56 (by decide) ?_
    refine lv_iadd hx hb dX2_undo_57 ?_
    refine lv_iload_n hx hb dX2_undo_58 rfl (lv_at hl 2 rfl) ?_
    refine lv_iadd hx hb dX2_undo_59 ?_
    obtain ⟨c_8, hE⟩ := og hE
    refine aM_0 hC hP c_8 dX2_undo_60 ?_
    obtain ⟨c_9, hE⟩ := og hE
    obtain ⟨z_9, ez_9, hE⟩ := on hE
    refine tM_0 hC hP hS c_9 ez_9 dX2_undo_61 (fun H locs hP hS => ?_)
    refine lv_iinc (v := (a.1 + (1 : Int32))) (lv' := [(2, .int (a.1 + (1 : Int32))), (0, .ref (E.2.2.2.1 0)), (1, .int v1)]) hx hb dX2_undo_62 hl (k := 2) rfl rfl (Nat.le_of_ble_eq_true rfl) rfl (fun ls hl => ?_)
    refine lv_goto (tgt := 37) hx hb dX2_undo_65 (by decide) ?_
    exact hc _ (Option.some.inj hE).symm H locs ls hP hS (lv_sub hl [1, 2, 0] rfl)
def fX2_undo_B75 (k : Nat) (v1 : Int32) (a : Int32 × MS) : Option ((Int32 × MS) ⊕ MS) := if (a.2.2.2.1 0 (0 : Int32).toNatClampNeg) ≤ a.1 then (some (.inr a.2)) else (if ib ((69 : Int32) + a.1) 3205 then none else (nm (mA a.2 0 (upd (a.2.2.2.1 0) ((69 : Int32) + a.1).toNatClampNeg (-1 : Int32))) fun z_14 => some (.inl ((a.1 + (1 : Int32)), z_14))))
set_option maxHeartbeats 1000000 in
theorem wX2_undo_B75 {p : Program} {l : Launch} {e : Env} {s : State} {m : MethodId} {args : Array Value} {below : List Frame} {meth : Method} {c : Code} {E : ME} {Q : State → Prop} (k : Nat) (v1 : Int32) (hC : mC E cX2_undo 3 (some .int) p s m args meth c) (a : Int32 × MS) (y : (Int32 × MS) ⊕ MS) (hE : fX2_undo_B75 k v1 a = some y) (hc : ∀ a : Int32 × MS, y = .inl a → mW p l e rmX2_undo s m args below meth c E 3 Q 75 [(0, .ref (E.2.2.2.1 0)), (1, .int v1), (2, .int a.1)] [] a.2) (hx1 : ∀ b : MS, y = .inr b → mW p l e rmX2_undo s m args below meth c E 3 Q 101 [(0, .ref (E.2.2.2.1 0)), (1, .int v1)] [] b) : mW p l e rmX2_undo s m args below meth c E 3 Q 75 [(0, .ref (E.2.2.2.1 0)), (1, .int v1), (2, .int a.1)] [] a.2 := by
  intro H locs ls hP hS hl
  have hx := hC.1
  have hb := hC.2.1
  have hown := hC.2.2.2.2.2.1
  have hts := hC.2.2.2.2.2.2.1
  unfold fX2_undo_B75 at hE
  refine lv_iload_n hx hb dX2_undo_75 rfl (lv_at hl 2 rfl) ?_
  refine lv_aload_n hx hb dX2_undo_76 rfl (lv_at hl 0 rfl) ?_
  refine gM_7 hC hP dX2_undo_77 ?_
  refine lv_iconst (v := 0) hx hb dX2_undo_80 (by decide) ?_
  refine aM_0 hC hP (i := (0 : Int32)) (by decide) dX2_undo_81 ?_
  refine lv_icmp_ge (tgt := 101) hx hb dX2_undo_82 (by decide) (fun c_13 => ?_) (fun c_13 => ?_)
  · have hE := ip c_13 hE
    exact hx1 _ (Option.some.inj hE).symm H locs ls hP hS (lv_sub hl [0, 1] rfl)
  · have hE := iq c_13 hE
    refine lv_aload_n hx hb dX2_undo_85 rfl (lv_at hl 0 rfl) ?_
    refine gM_7 hC hP dX2_undo_86 ?_
    refine lv_bipush (v := 69) hx hb dX2_undo_89 (by decide) ?_
    refine lv_iload_n hx hb dX2_undo_91 rfl (lv_at hl 2 rfl) ?_
    refine lv_iadd hx hb dX2_undo_92 ?_
    refine lv_iconst (v := -1) hx hb dX2_undo_93 (by decide) ?_
    obtain ⟨c_14, hE⟩ := og hE
    obtain ⟨z_14, ez_14, hE⟩ := on hE
    refine tM_0 hC hP hS c_14 ez_14 dX2_undo_94 (fun H locs hP hS => ?_)
    refine lv_iinc (v := (a.1 + (1 : Int32))) (lv' := [(2, .int (a.1 + (1 : Int32))), (0, .ref (E.2.2.2.1 0)), (1, .int v1)]) hx hb dX2_undo_95 hl (k := 2) rfl rfl (Nat.le_of_ble_eq_true rfl) rfl (fun ls hl => ?_)
    refine lv_goto (tgt := 75) hx hb dX2_undo_98 (by decide) ?_
    exact hc _ (Option.some.inj hE).symm H locs ls hP hS (lv_sub hl [1, 2, 0] rfl)
def fX2_undo_B103 (k : Nat) (v1 : Int32) (a : Int32 × MS) : Option ((Int32 × MS) ⊕ MS) := if (30 : Int32) ≤ a.1 then (some (.inr a.2)) else (if ib (((v1 + (1 : Int32)) + (70 : Int32)) + a.1) 3205 then none else (if ib ((3175 : Int32) + a.1) 3205 then none else (nm (mA a.2 0 (upd (a.2.2.2.1 0) ((3175 : Int32) + a.1).toNatClampNeg (a.2.2.2.1 0 (((v1 + (1 : Int32)) + (70 : Int32)) + a.1).toNatClampNeg))) fun z_18 => some (.inl ((a.1 + (1 : Int32)), z_18)))))
set_option maxHeartbeats 1000000 in
theorem wX2_undo_B103 {p : Program} {l : Launch} {e : Env} {s : State} {m : MethodId} {args : Array Value} {below : List Frame} {meth : Method} {c : Code} {E : ME} {Q : State → Prop} (k : Nat) (v1 : Int32) (hC : mC E cX2_undo 3 (some .int) p s m args meth c) (a : Int32 × MS) (y : (Int32 × MS) ⊕ MS) (hE : fX2_undo_B103 k v1 a = some y) (hc : ∀ a : Int32 × MS, y = .inl a → mW p l e rmX2_undo s m args below meth c E 3 Q 103 [(0, .ref (E.2.2.2.1 0)), (1, .int v1), (2, .int a.1)] [] a.2) (hx1 : ∀ b : MS, y = .inr b → mW p l e rmX2_undo s m args below meth c E 3 Q 138 [(0, .ref (E.2.2.2.1 0))] [] b) : mW p l e rmX2_undo s m args below meth c E 3 Q 103 [(0, .ref (E.2.2.2.1 0)), (1, .int v1), (2, .int a.1)] [] a.2 := by
  intro H locs ls hP hS hl
  have hx := hC.1
  have hb := hC.2.1
  have hown := hC.2.2.2.2.2.1
  have hts := hC.2.2.2.2.2.2.1
  unfold fX2_undo_B103 at hE
  refine lv_iload_n hx hb dX2_undo_103 rfl (lv_at hl 2 rfl) ?_
  refine lv_bipush (v := 30) hx hb dX2_undo_104 (by decide) ?_
  refine lv_icmp_ge (tgt := 138) hx hb dX2_undo_106 (by decide) (fun c_16 => ?_) (fun c_16 => ?_)
  · have hE := ip c_16 hE
    exact hx1 _ (Option.some.inj hE).symm H locs ls hP hS (lv_sub hl [0] rfl)
  · have hE := iq c_16 hE
    refine lv_aload_n hx hb dX2_undo_109 rfl (lv_at hl 0 rfl) ?_
    refine gM_7 hC hP dX2_undo_110 ?_
    refine lv_sipush (v := 3175) hx hb dX2_undo_113 (by decide) ?_
    refine lv_iload_n hx hb dX2_undo_116 rfl (lv_at hl 2 rfl) ?_
    refine lv_iadd hx hb dX2_undo_117 ?_
    refine lv_aload_n hx hb dX2_undo_118 rfl (lv_at hl 0 rfl) ?_
    refine gM_7 hC hP dX2_undo_119 ?_
    refine lv_iload_n hx hb dX2_undo_122 rfl (lv_at hl 1 rfl) ?_
    refine lv_iconst (v := 1) hx hb dX2_undo_123 (by decide) ?_
    refine lv_iadd hx hb dX2_undo_124 ?_
    refine lv_bipush (v := 70) hx hb dX2_undo_125 (by decide) ?_
    refine lv_iadd hx hb dX2_undo_127 ?_
    refine lv_iload_n hx hb dX2_undo_128 rfl (lv_at hl 2 rfl) ?_
    refine lv_iadd hx hb dX2_undo_129 ?_
    obtain ⟨c_17, hE⟩ := og hE
    refine aM_0 hC hP c_17 dX2_undo_130 ?_
    obtain ⟨c_18, hE⟩ := og hE
    obtain ⟨z_18, ez_18, hE⟩ := on hE
    refine tM_0 hC hP hS c_18 ez_18 dX2_undo_131 (fun H locs hP hS => ?_)
    refine lv_iinc (v := (a.1 + (1 : Int32))) (lv' := [(2, .int (a.1 + (1 : Int32))), (0, .ref (E.2.2.2.1 0)), (1, .int v1)]) hx hb dX2_undo_132 hl (k := 2) rfl rfl (Nat.le_of_ble_eq_true rfl) rfl (fun ls hl => ?_)
    refine lv_goto (tgt := 103) hx hb dX2_undo_135 (by decide) ?_
    exact hc _ (Option.some.inj hE).symm H locs ls hP hS (lv_sub hl [1, 2, 0] rfl)
def fX2_undo (k : Nat) (z : MS)  : Option (Int32 × MS) := if (z.2.2.1 0 (3 : Int32).toNatClampNeg) = 0 then (some ((-1 : Int32), z)) else (nm (mA z 0 (upd (z.2.2.1 0) (3 : Int32).toNatClampNeg ((z.2.2.1 0 (3 : Int32).toNatClampNeg) - (1 : Int32)))) fun z_4 => nm ((145 : Int32) + ((101 : Int32) * (z_4.2.2.1 0 (3 : Int32).toNatClampNeg))) fun v_6 => (lpo (fX2_undo_B37 k v_6) k ((0 : Int32), z_4)).bind fun x_10 => if ib v_6 3205 then none else ((lpo (fX2_undo_B75 k v_6) k ((x_10.2.2.1 0 v_6.toNatClampNeg), x_10)).bind fun x_15 => (lpo (fX2_undo_B103 k v_6) k ((0 : Int32), x_15)).bind fun x_19 => some ((x_19.2.2.1 0 (3 : Int32).toNatClampNeg), x_19)))
set_option maxHeartbeats 1000000 in
theorem wX2_undo {l : Launch} {E : ME} (k : Nat) (z : MS)  (y : Int32 × MS) (hE : fX2_undo k z  = some y) : mM l yX2_undo (ws_ yX2_undo cX2_undo 3 (some .int)) rmX2_undo E z [] (some (.int y.1)) y.2 := by
  refine m_met (by decide) rfl (Nat.le_of_ble_eq_true rfl) (fun p e s m args below meth c hC => ?_)
  intro H locs ls hP hS hl
  have hx := hC.1
  have hb := hC.2.1
  have hown := hC.2.2.2.2.2.1
  have hts := hC.2.2.2.2.2.2.1
  have hl : lv_has ls 3 [(0, .ref (E.2.2.2.1 0))] := hl
  unfold fX2_undo at hE
  refine lv_aload_n hx hb dX2_undo_0 rfl (lv_at hl 0 rfl) ?_
  refine gM_7 hC hP dX2_undo_1 ?_
  refine lv_iconst (v := 3) hx hb dX2_undo_4 (by decide) ?_
  refine aM_0 hC hP (i := (3 : Int32)) (by decide) dX2_undo_5 ?_
  refine lv_if_ne (tgt := 11) hx hb dX2_undo_6 (by decide) (fun c_2 => ?_) (fun c_2 => ?_)
  · have hE := iq c_2 hE
    refine lv_aload_n hx hb dX2_undo_11 rfl (lv_at hl 0 rfl) ?_
    refine gM_7 hC hP dX2_undo_12 ?_
    refine lv_iconst (v := 3) hx hb dX2_undo_15 (by decide) ?_
    refine lv_dup2_11 hx hb dX2_undo_16 rfl rfl ?_
    refine aM_0 hC hP (i := (3 : Int32)) (by decide) dX2_undo_17 ?_
    refine lv_iconst (v := 1) hx hb dX2_undo_18 (by decide) ?_
    refine lv_isub hx hb dX2_undo_19 ?_
    obtain ⟨z_4, ez_4, hE⟩ := on hE
    refine tM_0 hC hP hS (i := (3 : Int32)) (by decide) ez_4 dX2_undo_20 (fun H locs hP hS => ?_)
    refine lv_sipush (v := 145) hx hb dX2_undo_21 (by decide) ?_
    refine lv_bipush (v := 101) hx hb dX2_undo_24 (by decide) ?_
    refine lv_aload_n hx hb dX2_undo_26 rfl (lv_at hl 0 rfl) ?_
    refine gM_7 hC hP dX2_undo_27 ?_
    refine lv_iconst (v := 3) hx hb dX2_undo_30 (by decide) ?_
    refine aM_0 hC hP (i := (3 : Int32)) (by decide) dX2_undo_31 ?_
    refine lv_imul hx hb dX2_undo_32 ?_
    refine lv_iadd hx hb dX2_undo_33 ?_
    refine nm_i hE (fun v_6 ev_6 hE => ?_)
    refine lv_istore_n (lv' := [(1, .int v_6), (0, .ref (E.2.2.2.1 0))]) hx hb dX2_undo_34 rfl hl (Nat.le_of_ble_eq_true rfl) rfl (fun ls hl => ?_)
    refine lv_iconst (v := 0) hx hb dX2_undo_35 (by decide) ?_
    refine lv_istore_n (lv' := [(2, .int (0 : Int32)), (1, .int v_6), (0, .ref (E.2.2.2.1 0))]) hx hb dX2_undo_36 rfl hl (Nat.le_of_ble_eq_true rfl) rfl (fun ls hl => ?_)
    obtain ⟨x_10, h_10, hE⟩ := ob hE
    refine lpo_walk (fun p_10 : Int32 × MS => mW p l e rmX2_undo s m args below meth c E 3 (mQ E below args s (some (.int y.1)) y.2) 37 [(0, .ref (E.2.2.2.1 0)), (1, .int v_6), (2, .int p_10.1)] [] p_10.2) (fun q_10 : MS => mW p l e rmX2_undo s m args below meth c E 3 (mQ E below args s (some (.int y.1)) y.2) 68 [(0, .ref (E.2.2.2.1 0)), (1, .int v_6)] [] q_10) (fun a_10 y_10 hB_10 hc_10 hx_10 => wX2_undo_B37 k v_6 hC a_10 y_10 hB_10 hc_10 hx_10) _ _ x_10 h_10 ?_ H locs ls hP hS (lv_sub hl [2, 1, 0] rfl)
    intro H locs ls hP hS hl
    refine lv_aload_n hx hb dX2_undo_68 rfl (lv_at hl 0 rfl) ?_
    refine gM_7 hC hP dX2_undo_69 ?_
    refine lv_iload_n hx hb dX2_undo_72 rfl (lv_at hl 1 rfl) ?_
    obtain ⟨c_11, hE⟩ := og hE
    refine aM_0 hC hP c_11 dX2_undo_73 ?_
    refine lv_istore_n (lv' := [(2, .int (x_10.2.2.1 0 v_6.toNatClampNeg)), (0, .ref (E.2.2.2.1 0)), (1, .int v_6)]) hx hb dX2_undo_74 rfl hl (Nat.le_of_ble_eq_true rfl) rfl (fun ls hl => ?_)
    obtain ⟨x_15, h_15, hE⟩ := ob hE
    refine lpo_walk (fun p_15 : Int32 × MS => mW p l e rmX2_undo s m args below meth c E 3 (mQ E below args s (some (.int y.1)) y.2) 75 [(0, .ref (E.2.2.2.1 0)), (1, .int v_6), (2, .int p_15.1)] [] p_15.2) (fun q_15 : MS => mW p l e rmX2_undo s m args below meth c E 3 (mQ E below args s (some (.int y.1)) y.2) 101 [(0, .ref (E.2.2.2.1 0)), (1, .int v_6)] [] q_15) (fun a_15 y_15 hB_15 hc_15 hx_15 => wX2_undo_B75 k v_6 hC a_15 y_15 hB_15 hc_15 hx_15) _ _ x_15 h_15 ?_ H locs ls hP hS (lv_sub hl [1, 2, 0] rfl)
    intro H locs ls hP hS hl
    refine lv_iconst (v := 0) hx hb dX2_undo_101 (by decide) ?_
    refine lv_istore_n (lv' := [(2, .int (0 : Int32)), (0, .ref (E.2.2.2.1 0)), (1, .int v_6)]) hx hb dX2_undo_102 rfl hl (Nat.le_of_ble_eq_true rfl) rfl (fun ls hl => ?_)
    obtain ⟨x_19, h_19, hE⟩ := ob hE
    refine lpo_walk (fun p_19 : Int32 × MS => mW p l e rmX2_undo s m args below meth c E 3 (mQ E below args s (some (.int y.1)) y.2) 103 [(0, .ref (E.2.2.2.1 0)), (1, .int v_6), (2, .int p_19.1)] [] p_19.2) (fun q_19 : MS => mW p l e rmX2_undo s m args below meth c E 3 (mQ E below args s (some (.int y.1)) y.2) 138 [(0, .ref (E.2.2.2.1 0))] [] q_19) (fun a_19 y_19 hB_19 hc_19 hx_19 => wX2_undo_B103 k v_6 hC a_19 y_19 hB_19 hc_19 hx_19) _ _ x_19 h_19 ?_ H locs ls hP hS (lv_sub hl [1, 2, 0] rfl)
    intro H locs ls hP hS hl
    refine lv_aload_n hx hb dX2_undo_138 rfl (lv_at hl 0 rfl) ?_
    refine gM_7 hC hP dX2_undo_139 ?_
    refine lv_iconst (v := 3) hx hb dX2_undo_142 (by decide) ?_
    refine aM_0 hC hP (i := (3 : Int32)) (by decide) dX2_undo_143 ?_
    obtain rfl := Option.some.inj hE
    exact m_iret hC hP hS dX2_undo_144
  · have hE := ip c_2 hE
    refine lv_iconst (v := -1) hx hb dX2_undo_9 (by decide) ?_
    obtain rfl := Option.some.inj hE
    exact m_iret hC hP hS dX2_undo_10
def fX2_isChild (z : MS) (x1 : Int32) : Option Int32 := (fX2_isIn x1 (0 : Int32) ((z.2.2.1 0 (0 : Int32).toNatClampNeg) - (1 : Int32))).bind fun r_2 => if ¬ r_2 &&& 1 = r_2 then none else some r_2
set_option maxHeartbeats 1000000 in
theorem wX2_isChild {l : Launch} {E : ME} (z : MS) (x1 : Int32) (y : Int32) (hE : fX2_isChild z x1 = some y) : mM l yX2_isChild (ws_ yX2_isChild cX2_isChild 2 (some .boolean)) rmX2_isChild E z [.int x1] (some (.int y)) z := by
  refine m_met (by decide) rfl (Nat.le_of_ble_eq_true rfl) (fun p e s m args below meth c hC => ?_)
  intro H locs ls hP hS hl
  have hx := hC.1
  have hb := hC.2.1
  have hown := hC.2.2.2.2.2.1
  have hts := hC.2.2.2.2.2.2.1
  have hl : lv_has ls 2 [(0, .ref (E.2.2.2.1 0)), (1, .int x1)] := hl
  unfold fX2_isChild at hE
  refine lv_iload_n hx hb dX2_isChild_0 rfl (lv_at hl 1 rfl) ?_
  refine lv_iconst (v := 0) hx hb dX2_isChild_1 (by decide) ?_
  refine lv_aload_n hx hb dX2_isChild_2 rfl (lv_at hl 0 rfl) ?_
  refine gM_7 hC hP dX2_isChild_3 ?_
  refine lv_iconst (v := 0) hx hb dX2_isChild_6 (by decide) ?_
  refine aM_0 hC hP (i := (0 : Int32)) (by decide) dX2_isChild_7 ?_
  refine lv_iconst (v := 1) hx hb dX2_isChild_8 (by decide) ?_
  refine lv_isub hx hb dX2_isChild_9 ?_
  obtain ⟨r_2, h_2, hE⟩ := ob hE
  refine s_calli [.int x1, .int (0 : Int32), .int ((z.2.2.1 0 (0 : Int32).toNatClampNeg) - (1 : Int32))] hC.sC hl.1 (wX2_isIn x1 (0 : Int32) ((z.2.2.1 0 (0 : Int32).toNatClampNeg) - (1 : Int32)) r_2 h_2) (va_cwS 3 hts lkX2_69 rfl rfl rfl cdX2_isIn ⟨Nat.le_of_ble_eq_true rfl, Nat.le_of_ble_eq_true rfl⟩) rfl rfl (lv_room (Nat.le_of_ble_eq_true rfl)) ⟨Nat.zero_le _, Nat.zero_le _⟩ dX2_isChild_10 ?_
  obtain ⟨c_3, hE⟩ := og hE
  obtain rfl := Option.some.inj hE
  exact m_zret hC hP hS (Decidable.not_not.mp c_3) dX2_isChild_13
def fX2_canRun (z : MS) (x1 : Int32) : Option Int32 := (fX2_isChild z x1).bind fun r_1 => if r_1 = 0 then (some (0 : Int32)) else (if ib ((69 : Int32) + x1) 3205 then none else (if (z.2.2.1 0 ((69 : Int32) + x1).toNatClampNeg) = (-1 : Int32) then (some (1 : Int32)) else (some (0 : Int32))))
set_option maxHeartbeats 1000000 in
theorem wX2_canRun {l : Launch} {E : ME} (z : MS) (x1 : Int32) (y : Int32) (hE : fX2_canRun z x1 = some y) : mM l yX2_canRun (ws_ yX2_canRun cX2_canRun 2 (some .boolean)) rmX2_canRun E z [.int x1] (some (.int y)) z := by
  refine m_met (by decide) rfl (Nat.le_of_ble_eq_true rfl) (fun p e s m args below meth c hC => ?_)
  intro H locs ls hP hS hl
  have hx := hC.1
  have hb := hC.2.1
  have hown := hC.2.2.2.2.2.1
  have hts := hC.2.2.2.2.2.2.1
  have hl : lv_has ls 2 [(0, .ref (E.2.2.2.1 0)), (1, .int x1)] := hl
  unfold fX2_canRun at hE
  refine lv_aload_n hx hb dX2_canRun_0 rfl (lv_at hl 0 rfl) ?_
  refine lv_iload_n hx hb dX2_canRun_1 rfl (lv_at hl 1 rfl) ?_
  obtain ⟨r_1, h_1, hE⟩ := ob hE
  refine m_calli [.int x1] hC hP hS hl.1 (wX2_isChild z x1 r_1 h_1) (cwV 1 hts lkX2_322 rfl rfl rfl cdX2_isChild ⟨Nat.le_of_ble_eq_true rfl, Nat.le_of_ble_eq_true rfl⟩) rfl rfl (lv_room (Nat.le_of_ble_eq_true rfl)) dX2_canRun_2 (fun H locs hP hS => ?_)
  refine lv_if_eq (tgt := 25) hx hb dX2_canRun_5 (by decide) (fun c_2 => ?_) (fun c_2 => ?_)
  · have hE := ip c_2 hE
    refine lv_iconst (v := 0) hx hb dX2_canRun_25 (by decide) ?_
    obtain rfl := Option.some.inj hE
    exact m_zret (v := (0 : Int32)) hC hP hS (by decide) dX2_canRun_26
  · have hE := iq c_2 hE
    refine lv_aload_n hx hb dX2_canRun_8 rfl (lv_at hl 0 rfl) ?_
    refine gM_7 hC hP dX2_canRun_9 ?_
    refine lv_bipush (v := 69) hx hb dX2_canRun_12 (by decide) ?_
    refine lv_iload_n hx hb dX2_canRun_14 rfl (lv_at hl 1 rfl) ?_
    refine lv_iadd hx hb dX2_canRun_15 ?_
    obtain ⟨c_3, hE⟩ := og hE
    refine aM_0 hC hP c_3 dX2_canRun_16 ?_
    refine lv_iconst (v := -1) hx hb dX2_canRun_17 (by decide) ?_
    refine lv_icmp_ne (tgt := 25) hx hb dX2_canRun_18 (by decide) (fun c_4 => ?_) (fun c_4 => ?_)
    · have hE := iq c_4 hE
      refine lv_iconst (v := 0) hx hb dX2_canRun_25 (by decide) ?_
      obtain rfl := Option.some.inj hE
      exact m_zret (v := (0 : Int32)) hC hP hS (by decide) dX2_canRun_26
    · have hE := ip c_4 hE
      refine lv_iconst (v := 1) hx hb dX2_canRun_21 (by decide) ?_
      refine lv_goto (tgt := 26) hx hb dX2_canRun_22 (by decide) ?_
      obtain rfl := Option.some.inj hE
      exact m_zret (v := (1 : Int32)) hC hP hS (by decide) dX2_canRun_26
def fX2_keep_B84 (k : Nat) (v1 : Int32) (a : Int32 × MS) : Option ((Int32 × MS) ⊕ MS) := if (70 : Int32) ≤ a.1 then (some (.inr a.2)) else (if ib ((6 : Int32) + a.1) 3205 then none else (if ib ((v1 + (1 : Int32)) + a.1) 3205 then none else (nm (mA a.2 0 (upd (a.2.2.2.1 0) ((v1 + (1 : Int32)) + a.1).toNatClampNeg (a.2.2.2.1 0 ((6 : Int32) + a.1).toNatClampNeg))) fun z_9 => some (.inl ((a.1 + (1 : Int32)), z_9)))))
set_option maxHeartbeats 1000000 in
theorem wX2_keep_B84 {p : Program} {l : Launch} {e : Env} {s : State} {m : MethodId} {args : Array Value} {below : List Frame} {meth : Method} {c : Code} {E : ME} {Q : State → Prop} (k : Nat) (v1 : Int32) (hC : mC E cX2_keep 3 none p s m args meth c) (a : Int32 × MS) (y : (Int32 × MS) ⊕ MS) (hE : fX2_keep_B84 k v1 a = some y) (hc : ∀ a : Int32 × MS, y = .inl a → mW p l e rmX2_keep s m args below meth c E 3 Q 84 [(0, .ref (E.2.2.2.1 0)), (1, .int v1), (2, .int a.1)] [] a.2) (hx1 : ∀ b : MS, y = .inr b → mW p l e rmX2_keep s m args below meth c E 3 Q 115 [(0, .ref (E.2.2.2.1 0)), (1, .int v1)] [] b) : mW p l e rmX2_keep s m args below meth c E 3 Q 84 [(0, .ref (E.2.2.2.1 0)), (1, .int v1), (2, .int a.1)] [] a.2 := by
  intro H locs ls hP hS hl
  have hx := hC.1
  have hb := hC.2.1
  have hown := hC.2.2.2.2.2.1
  have hts := hC.2.2.2.2.2.2.1
  unfold fX2_keep_B84 at hE
  refine lv_iload_n hx hb dX2_keep_84 rfl (lv_at hl 2 rfl) ?_
  refine lv_bipush (v := 70) hx hb dX2_keep_85 (by decide) ?_
  refine lv_icmp_ge (tgt := 115) hx hb dX2_keep_87 (by decide) (fun c_7 => ?_) (fun c_7 => ?_)
  · have hE := ip c_7 hE
    exact hx1 _ (Option.some.inj hE).symm H locs ls hP hS (lv_sub hl [0, 1] rfl)
  · have hE := iq c_7 hE
    refine lv_aload_n hx hb dX2_keep_90 rfl (lv_at hl 0 rfl) ?_
    refine gM_7 hC hP dX2_keep_91 ?_
    refine lv_iload_n hx hb dX2_keep_94 rfl (lv_at hl 1 rfl) ?_
    refine lv_iconst (v := 1) hx hb dX2_keep_95 (by decide) ?_
    refine lv_iadd hx hb dX2_keep_96 ?_
    refine lv_iload_n hx hb dX2_keep_97 rfl (lv_at hl 2 rfl) ?_
    refine lv_iadd hx hb dX2_keep_98 ?_
    refine lv_aload_n hx hb dX2_keep_99 rfl (lv_at hl 0 rfl) ?_
    refine gM_7 hC hP dX2_keep_100 ?_
    refine lv_bipush (v := 6) hx hb dX2_keep_103 (by decide) ?_
    refine lv_iload_n hx hb dX2_keep_105 rfl (lv_at hl 2 rfl) ?_
    refine lv_iadd hx hb dX2_keep_106 ?_
    obtain ⟨c_8, hE⟩ := og hE
    refine aM_0 hC hP c_8 dX2_keep_107 ?_
    obtain ⟨c_9, hE⟩ := og hE
    obtain ⟨z_9, ez_9, hE⟩ := on hE
    refine tM_0 hC hP hS c_9 ez_9 dX2_keep_108 (fun H locs hP hS => ?_)
    refine lv_iinc (v := (a.1 + (1 : Int32))) (lv' := [(2, .int (a.1 + (1 : Int32))), (0, .ref (E.2.2.2.1 0)), (1, .int v1)]) hx hb dX2_keep_109 hl (k := 2) rfl rfl (Nat.le_of_ble_eq_true rfl) rfl (fun ls hl => ?_)
    refine lv_goto (tgt := 84) hx hb dX2_keep_112 (by decide) ?_
    exact hc _ (Option.some.inj hE).symm H locs ls hP hS (lv_sub hl [1, 2, 0] rfl)
def fX2_keep_B117 (k : Nat) (v1 : Int32) (a : Int32 × MS) : Option ((Int32 × MS) ⊕ MS) := if (30 : Int32) ≤ a.1 then (some (.inr a.2)) else (if ib ((3175 : Int32) + a.1) 3205 then none else (if ib (((v1 + (1 : Int32)) + (70 : Int32)) + a.1) 3205 then none else (nm (mA a.2 0 (upd (a.2.2.2.1 0) (((v1 + (1 : Int32)) + (70 : Int32)) + a.1).toNatClampNeg (a.2.2.2.1 0 ((3175 : Int32) + a.1).toNatClampNeg))) fun z_13 => some (.inl ((a.1 + (1 : Int32)), z_13)))))
set_option maxHeartbeats 1000000 in
theorem wX2_keep_B117 {p : Program} {l : Launch} {e : Env} {s : State} {m : MethodId} {args : Array Value} {below : List Frame} {meth : Method} {c : Code} {E : ME} {Q : State → Prop} (k : Nat) (v1 : Int32) (hC : mC E cX2_keep 3 none p s m args meth c) (a : Int32 × MS) (y : (Int32 × MS) ⊕ MS) (hE : fX2_keep_B117 k v1 a = some y) (hc : ∀ a : Int32 × MS, y = .inl a → mW p l e rmX2_keep s m args below meth c E 3 Q 117 [(0, .ref (E.2.2.2.1 0)), (1, .int v1), (2, .int a.1)] [] a.2) (hx1 : ∀ b : MS, y = .inr b → mW p l e rmX2_keep s m args below meth c E 3 Q 152 [(0, .ref (E.2.2.2.1 0))] [] b) : mW p l e rmX2_keep s m args below meth c E 3 Q 117 [(0, .ref (E.2.2.2.1 0)), (1, .int v1), (2, .int a.1)] [] a.2 := by
  intro H locs ls hP hS hl
  have hx := hC.1
  have hb := hC.2.1
  have hown := hC.2.2.2.2.2.1
  have hts := hC.2.2.2.2.2.2.1
  unfold fX2_keep_B117 at hE
  refine lv_iload_n hx hb dX2_keep_117 rfl (lv_at hl 2 rfl) ?_
  refine lv_bipush (v := 30) hx hb dX2_keep_118 (by decide) ?_
  refine lv_icmp_ge (tgt := 152) hx hb dX2_keep_120 (by decide) (fun c_11 => ?_) (fun c_11 => ?_)
  · have hE := ip c_11 hE
    exact hx1 _ (Option.some.inj hE).symm H locs ls hP hS (lv_sub hl [0] rfl)
  · have hE := iq c_11 hE
    refine lv_aload_n hx hb dX2_keep_123 rfl (lv_at hl 0 rfl) ?_
    refine gM_7 hC hP dX2_keep_124 ?_
    refine lv_iload_n hx hb dX2_keep_127 rfl (lv_at hl 1 rfl) ?_
    refine lv_iconst (v := 1) hx hb dX2_keep_128 (by decide) ?_
    refine lv_iadd hx hb dX2_keep_129 ?_
    refine lv_bipush (v := 70) hx hb dX2_keep_130 (by decide) ?_
    refine lv_iadd hx hb dX2_keep_132 ?_
    refine lv_iload_n hx hb dX2_keep_133 rfl (lv_at hl 2 rfl) ?_
    refine lv_iadd hx hb dX2_keep_134 ?_
    refine lv_aload_n hx hb dX2_keep_135 rfl (lv_at hl 0 rfl) ?_
    refine gM_7 hC hP dX2_keep_136 ?_
    refine lv_sipush (v := 3175) hx hb dX2_keep_139 (by decide) ?_
    refine lv_iload_n hx hb dX2_keep_142 rfl (lv_at hl 2 rfl) ?_
    refine lv_iadd hx hb dX2_keep_143 ?_
    obtain ⟨c_12, hE⟩ := og hE
    refine aM_0 hC hP c_12 dX2_keep_144 ?_
    obtain ⟨c_13, hE⟩ := og hE
    obtain ⟨z_13, ez_13, hE⟩ := on hE
    refine tM_0 hC hP hS c_13 ez_13 dX2_keep_145 (fun H locs hP hS => ?_)
    refine lv_iinc (v := (a.1 + (1 : Int32))) (lv' := [(2, .int (a.1 + (1 : Int32))), (0, .ref (E.2.2.2.1 0)), (1, .int v1)]) hx hb dX2_keep_146 hl (k := 2) rfl rfl (Nat.le_of_ble_eq_true rfl) rfl (fun ls hl => ?_)
    refine lv_goto (tgt := 117) hx hb dX2_keep_149 (by decide) ?_
    exact hc _ (Option.some.inj hE).symm H locs ls hP hS (lv_sub hl [1, 2, 0] rfl)
def fX2_keep_J56 (k : Nat) (z : MS)  : Option (MS) := nm ((145 : Int32) + ((101 : Int32) * (z.2.2.1 0 (3 : Int32).toNatClampNeg))) fun v_4 => if ib v_4 3205 then none else (nm (mA z 0 (upd (z.2.2.1 0) v_4.toNatClampNeg (z.2.2.1 0 (0 : Int32).toNatClampNeg))) fun z_6 => (lpo (fX2_keep_B84 k v_4) k ((0 : Int32), z_6)).bind fun x_10 => (lpo (fX2_keep_B117 k v_4) k ((0 : Int32), x_10)).bind fun x_14 => nm (mA x_14 0 (upd (x_14.2.2.1 0) (3 : Int32).toNatClampNeg ((x_14.2.2.1 0 (3 : Int32).toNatClampNeg) + (1 : Int32)))) fun z_16 => some z_16)
set_option maxHeartbeats 1000000 in
theorem wX2_keep_J56 {p : Program} {l : Launch} {e : Env} {s : State} {m : MethodId} {args : Array Value} {below : List Frame} {meth : Method} {c : Code} {E : ME} (k : Nat) (z : MS)  (hC : mC E cX2_keep 3 none p s m args meth c) (y : MS) (hE : fX2_keep_J56 k z  = some y) : mW p l e rmX2_keep s m args below meth c E 3 (mQ E below args s none y) 56 [(0, .ref (E.2.2.2.1 0))] [] z := by
  intro H locs ls hP hS hl
  have hx := hC.1
  have hb := hC.2.1
  have hown := hC.2.2.2.2.2.1
  have hts := hC.2.2.2.2.2.2.1
  unfold fX2_keep_J56 at hE
  refine lv_sipush (v := 145) hx hb dX2_keep_56 (by decide) ?_
  refine lv_bipush (v := 101) hx hb dX2_keep_59 (by decide) ?_
  refine lv_aload_n hx hb dX2_keep_61 rfl (lv_at hl 0 rfl) ?_
  refine gM_7 hC hP dX2_keep_62 ?_
  refine lv_iconst (v := 3) hx hb dX2_keep_65 (by decide) ?_
  refine aM_0 hC hP (i := (3 : Int32)) (by decide) dX2_keep_66 ?_
  refine lv_imul hx hb dX2_keep_67 ?_
  refine lv_iadd hx hb dX2_keep_68 ?_
  refine nm_i hE (fun v_4 ev_4 hE => ?_)
  refine lv_istore_n (lv' := [(1, .int v_4), (0, .ref (E.2.2.2.1 0))]) hx hb dX2_keep_69 rfl hl (Nat.le_of_ble_eq_true rfl) rfl (fun ls hl => ?_)
  refine lv_aload_n hx hb dX2_keep_70 rfl (lv_at hl 1 rfl) ?_
  refine gM_7 hC hP dX2_keep_71 ?_
  refine lv_iload_n hx hb dX2_keep_74 rfl (lv_at hl 0 rfl) ?_
  refine lv_aload_n hx hb dX2_keep_75 rfl (lv_at hl 1 rfl) ?_
  refine gM_7 hC hP dX2_keep_76 ?_
  refine lv_iconst (v := 0) hx hb dX2_keep_79 (by decide) ?_
  refine aM_0 hC hP (i := (0 : Int32)) (by decide) dX2_keep_80 ?_
  obtain ⟨c_6, hE⟩ := og hE
  obtain ⟨z_6, ez_6, hE⟩ := on hE
  refine tM_0 hC hP hS c_6 ez_6 dX2_keep_81 (fun H locs hP hS => ?_)
  refine lv_iconst (v := 0) hx hb dX2_keep_82 (by decide) ?_
  refine lv_istore_n (lv' := [(2, .int (0 : Int32)), (1, .int v_4), (0, .ref (E.2.2.2.1 0))]) hx hb dX2_keep_83 rfl hl (Nat.le_of_ble_eq_true rfl) rfl (fun ls hl => ?_)
  obtain ⟨x_10, h_10, hE⟩ := ob hE
  refine lpo_walk (fun p_10 : Int32 × MS => mW p l e rmX2_keep s m args below meth c E 3 (mQ E below args s none y) 84 [(0, .ref (E.2.2.2.1 0)), (1, .int v_4), (2, .int p_10.1)] [] p_10.2) (fun q_10 : MS => mW p l e rmX2_keep s m args below meth c E 3 (mQ E below args s none y) 115 [(0, .ref (E.2.2.2.1 0)), (1, .int v_4)] [] q_10) (fun a_10 y_10 hB_10 hc_10 hx_10 => wX2_keep_B84 k v_4 hC a_10 y_10 hB_10 hc_10 hx_10) _ _ x_10 h_10 ?_ H locs ls hP hS (lv_sub hl [2, 1, 0] rfl)
  intro H locs ls hP hS hl
  refine lv_iconst (v := 0) hx hb dX2_keep_115 (by decide) ?_
  refine lv_istore_n (lv' := [(2, .int (0 : Int32)), (0, .ref (E.2.2.2.1 0)), (1, .int v_4)]) hx hb dX2_keep_116 rfl hl (Nat.le_of_ble_eq_true rfl) rfl (fun ls hl => ?_)
  obtain ⟨x_14, h_14, hE⟩ := ob hE
  refine lpo_walk (fun p_14 : Int32 × MS => mW p l e rmX2_keep s m args below meth c E 3 (mQ E below args s none y) 117 [(0, .ref (E.2.2.2.1 0)), (1, .int v_4), (2, .int p_14.1)] [] p_14.2) (fun q_14 : MS => mW p l e rmX2_keep s m args below meth c E 3 (mQ E below args s none y) 152 [(0, .ref (E.2.2.2.1 0))] [] q_14) (fun a_14 y_14 hB_14 hc_14 hx_14 => wX2_keep_B117 k v_4 hC a_14 y_14 hB_14 hc_14 hx_14) _ _ x_14 h_14 ?_ H locs ls hP hS (lv_sub hl [1, 2, 0] rfl)
  intro H locs ls hP hS hl
  refine lv_aload_n hx hb dX2_keep_152 rfl (lv_at hl 0 rfl) ?_
  refine gM_7 hC hP dX2_keep_153 ?_
  refine lv_iconst (v := 3) hx hb dX2_keep_156 (by decide) ?_
  refine lv_dup2_11 hx hb dX2_keep_157 rfl rfl ?_
  refine aM_0 hC hP (i := (3 : Int32)) (by decide) dX2_keep_158 ?_
  refine lv_iconst (v := 1) hx hb dX2_keep_159 (by decide) ?_
  refine lv_iadd hx hb dX2_keep_160 ?_
  obtain ⟨z_16, ez_16, hE⟩ := on hE
  refine tM_0 hC hP hS (i := (3 : Int32)) (by decide) ez_16 dX2_keep_161 (fun H locs hP hS => ?_)
  obtain rfl := Option.some.inj hE
  exact m_vret hC hP hS dX2_keep_162
def fX2_keep_B13 (k : Nat)  (a : Int32 × MS) : Option ((Int32 × MS) ⊕ MS) := if (2929 : Int32) ≤ a.1 then (some (.inr a.2)) else (if ib ((246 : Int32) + a.1) 3205 then none else (if ib ((145 : Int32) + a.1) 3205 then none else (nm (mA a.2 0 (upd (a.2.2.2.1 0) ((145 : Int32) + a.1).toNatClampNeg (a.2.2.2.1 0 ((246 : Int32) + a.1).toNatClampNeg))) fun z_19 => some (.inl ((a.1 + (1 : Int32)), z_19)))))
set_option maxHeartbeats 1000000 in
theorem wX2_keep_B13 {p : Program} {l : Launch} {e : Env} {s : State} {m : MethodId} {args : Array Value} {below : List Frame} {meth : Method} {c : Code} {E : ME} {Q : State → Prop} (k : Nat)  (hC : mC E cX2_keep 3 none p s m args meth c) (a : Int32 × MS) (y : (Int32 × MS) ⊕ MS) (hE : fX2_keep_B13 k  a = some y) (hc : ∀ a : Int32 × MS, y = .inl a → mW p l e rmX2_keep s m args below meth c E 3 Q 13 [(0, .ref (E.2.2.2.1 0)), (1, .int a.1)] [] a.2) (hx1 : ∀ b : MS, y = .inr b → mW p l e rmX2_keep s m args below meth c E 3 Q 46 [(0, .ref (E.2.2.2.1 0))] [] b) : mW p l e rmX2_keep s m args below meth c E 3 Q 13 [(0, .ref (E.2.2.2.1 0)), (1, .int a.1)] [] a.2 := by
  intro H locs ls hP hS hl
  have hx := hC.1
  have hb := hC.2.1
  have hown := hC.2.2.2.2.2.1
  have hts := hC.2.2.2.2.2.2.1
  unfold fX2_keep_B13 at hE
  refine lv_iload_n hx hb dX2_keep_13 rfl (lv_at hl 1 rfl) ?_
  refine lv_sipush (v := 2929) hx hb dX2_keep_14 (by decide) ?_
  refine lv_icmp_ge (tgt := 46) hx hb dX2_keep_17 (by decide) (fun c_17 => ?_) (fun c_17 => ?_)
  · have hE := ip c_17 hE
    exact hx1 _ (Option.some.inj hE).symm H locs ls hP hS (lv_sub hl [0] rfl)
  · have hE := iq c_17 hE
    refine lv_aload_n hx hb dX2_keep_20 rfl (lv_at hl 0 rfl) ?_
    refine gM_7 hC hP dX2_keep_21 ?_
    refine lv_sipush (v := 145) hx hb dX2_keep_24 (by decide) ?_
    refine lv_iload_n hx hb dX2_keep_27 rfl (lv_at hl 1 rfl) ?_
    refine lv_iadd hx hb dX2_keep_28 ?_
    refine lv_aload_n hx hb dX2_keep_29 rfl (lv_at hl 0 rfl) ?_
    refine gM_7 hC hP dX2_keep_30 ?_
    refine lv_sipush (v := 246) hx hb dX2_keep_33 (by decide) ?_
    refine lv_iload_n hx hb dX2_keep_36 rfl (lv_at hl 1 rfl) ?_
    refine lv_iadd hx hb dX2_keep_37 ?_
    obtain ⟨c_18, hE⟩ := og hE
    refine aM_0 hC hP c_18 dX2_keep_38 ?_
    obtain ⟨c_19, hE⟩ := og hE
    obtain ⟨z_19, ez_19, hE⟩ := on hE
    refine tM_0 hC hP hS c_19 ez_19 dX2_keep_39 (fun H locs hP hS => ?_)
    refine lv_iinc (v := (a.1 + (1 : Int32))) (lv' := [(1, .int (a.1 + (1 : Int32))), (0, .ref (E.2.2.2.1 0))]) hx hb dX2_keep_40 hl (k := 1) rfl rfl (Nat.le_of_ble_eq_true rfl) rfl (fun ls hl => ?_)
    refine lv_goto (tgt := 13) hx hb dX2_keep_43 (by decide) ?_
    exact hc _ (Option.some.inj hE).symm H locs ls hP hS (lv_sub hl [1, 0] rfl)
def fX2_keep (k : Nat) (z : MS)  : Option MS := if (z.2.2.1 0 (3 : Int32).toNatClampNeg) = (30 : Int32) then ((lpo (fX2_keep_B13 k ) k ((0 : Int32), z)).bind fun x_20 => nm (mA x_20 0 (upd (x_20.2.2.1 0) (3 : Int32).toNatClampNeg ((x_20.2.2.1 0 (3 : Int32).toNatClampNeg) - (1 : Int32)))) fun z_22 => (fX2_keep_J56 k z_22 )) else ((fX2_keep_J56 k z ))
set_option maxHeartbeats 1000000 in
theorem wX2_keep {l : Launch} {E : ME} (k : Nat) (z : MS)  (y : MS) (hE : fX2_keep k z  = some y) : mM l yX2_keep (ws_ yX2_keep cX2_keep 3 none) rmX2_keep E z [] none y := by
  refine m_met (by decide) rfl (Nat.le_of_ble_eq_true rfl) (fun p e s m args below meth c hC => ?_)
  intro H locs ls hP hS hl
  have hx := hC.1
  have hb := hC.2.1
  have hown := hC.2.2.2.2.2.1
  have hts := hC.2.2.2.2.2.2.1
  have hl : lv_has ls 3 [(0, .ref (E.2.2.2.1 0))] := hl
  unfold fX2_keep at hE
  refine lv_aload_n hx hb dX2_keep_0 rfl (lv_at hl 0 rfl) ?_
  refine gM_7 hC hP dX2_keep_1 ?_
  refine lv_iconst (v := 3) hx hb dX2_keep_4 (by decide) ?_
  refine aM_0 hC hP (i := (3 : Int32)) (by decide) dX2_keep_5 ?_
  refine lv_bipush (v := 30) hx hb dX2_keep_6 (by decide) ?_
  refine lv_icmp_ne (tgt := 56) hx hb dX2_keep_8 (by decide) (fun c_2 => ?_) (fun c_2 => ?_)
  · have hE := iq c_2 hE
    exact wX2_keep_J56 k z  hC y hE H locs ls hP hS hl
  · have hE := ip c_2 hE
    refine lv_iconst (v := 0) hx hb dX2_keep_11 (by decide) ?_
    refine lv_istore_n (lv' := [(1, .int (0 : Int32)), (0, .ref (E.2.2.2.1 0))]) hx hb dX2_keep_12 rfl hl (Nat.le_of_ble_eq_true rfl) rfl (fun ls hl => ?_)
    obtain ⟨x_20, h_20, hE⟩ := ob hE
    refine lpo_walk (fun p_20 : Int32 × MS => mW p l e rmX2_keep s m args below meth c E 3 (mQ E below args s none y) 13 [(0, .ref (E.2.2.2.1 0)), (1, .int p_20.1)] [] p_20.2) (fun q_20 : MS => mW p l e rmX2_keep s m args below meth c E 3 (mQ E below args s none y) 46 [(0, .ref (E.2.2.2.1 0))] [] q_20) (fun a_20 y_20 hB_20 hc_20 hx_20 => wX2_keep_B13 k  hC a_20 y_20 hB_20 hc_20 hx_20) _ _ x_20 h_20 ?_ H locs ls hP hS (lv_sub hl [1, 0] rfl)
    intro H locs ls hP hS hl
    refine lv_aload_n hx hb dX2_keep_46 rfl (lv_at hl 0 rfl) ?_
    refine gM_7 hC hP dX2_keep_47 ?_
    refine lv_iconst (v := 3) hx hb dX2_keep_50 (by decide) ?_
    refine lv_dup2_11 hx hb dX2_keep_51 rfl rfl ?_
    refine aM_0 hC hP (i := (3 : Int32)) (by decide) dX2_keep_52 ?_
    refine lv_iconst (v := 1) hx hb dX2_keep_53 (by decide) ?_
    refine lv_isub hx hb dX2_keep_54 ?_
    obtain ⟨z_22, ez_22, hE⟩ := on hE
    refine tM_0 hC hP hS (i := (3 : Int32)) (by decide) ez_22 dX2_keep_55 (fun H locs hP hS => ?_)
    exact wX2_keep_J56 k z_22  hC y hE H locs ls hP hS hl
def fX2_isBar (z : MS) (x1 : Int32) : Option Int32 := if ib ((9 : Int32) + x1) 3205 then none else (if (z.2.2.1 0 ((9 : Int32) + x1).toNatClampNeg) = (1 : Int32) then (some (1 : Int32)) else (some (0 : Int32)))
set_option maxHeartbeats 1000000 in
theorem wX2_isBar {l : Launch} {E : ME} (z : MS) (x1 : Int32) (y : Int32) (hE : fX2_isBar z x1 = some y) : mM l yX2_isBar (ws_ yX2_isBar cX2_isBar 2 (some .boolean)) rmX2_isBar E z [.int x1] (some (.int y)) z := by
  refine m_met (by decide) rfl (Nat.le_of_ble_eq_true rfl) (fun p e s m args below meth c hC => ?_)
  intro H locs ls hP hS hl
  have hx := hC.1
  have hb := hC.2.1
  have hown := hC.2.2.2.2.2.1
  have hts := hC.2.2.2.2.2.2.1
  have hl : lv_has ls 2 [(0, .ref (E.2.2.2.1 0)), (1, .int x1)] := hl
  unfold fX2_isBar at hE
  refine lv_aload_n hx hb dX2_isBar_0 rfl (lv_at hl 0 rfl) ?_
  refine gM_7 hC hP dX2_isBar_1 ?_
  refine lv_bipush (v := 9) hx hb dX2_isBar_4 (by decide) ?_
  refine lv_iload_n hx hb dX2_isBar_6 rfl (lv_at hl 1 rfl) ?_
  refine lv_iadd hx hb dX2_isBar_7 ?_
  obtain ⟨c_1, hE⟩ := og hE
  refine aM_0 hC hP c_1 dX2_isBar_8 ?_
  refine lv_iconst (v := 1) hx hb dX2_isBar_9 (by decide) ?_
  refine lv_icmp_ne (tgt := 17) hx hb dX2_isBar_10 (by decide) (fun c_2 => ?_) (fun c_2 => ?_)
  · have hE := iq c_2 hE
    refine lv_iconst (v := 0) hx hb dX2_isBar_17 (by decide) ?_
    obtain rfl := Option.some.inj hE
    exact m_zret (v := (0 : Int32)) hC hP hS (by decide) dX2_isBar_18
  · have hE := ip c_2 hE
    refine lv_iconst (v := 1) hx hb dX2_isBar_13 (by decide) ?_
    refine lv_goto (tgt := 18) hx hb dX2_isBar_14 (by decide) ?_
    obtain rfl := Option.some.inj hE
    exact m_zret (v := (1 : Int32)) hC hP hS (by decide) dX2_isBar_18
def fX2_name (z : MS) (x1 : Int32) : Option MS := nm (mA z 20 (upd (z.2.2.1 20) (0 : Int32).toNatClampNeg (z.2.2.1 0 (6 : Int32).toNatClampNeg))) fun z_2 => nm (mA z_2 20 (upd (z_2.2.2.1 20) (1 : Int32).toNatClampNeg x1)) fun z_3 => if ib ((9 : Int32) + x1) 3205 then none else (nm (mA z_3 20 (upd (z_3.2.2.1 20) (2 : Int32).toNatClampNeg (z_3.2.2.1 0 ((9 : Int32) + x1).toNatClampNeg))) fun z_5 => if ib ((39 : Int32) + x1) 3205 then none else (nm (mA z_5 20 (upd (z_5.2.2.1 20) (3 : Int32).toNatClampNeg (z_5.2.2.1 0 ((39 : Int32) + x1).toNatClampNeg))) fun z_7 => some z_7))
set_option maxHeartbeats 1000000 in
theorem wX2_name {l : Launch} {E : ME} (z : MS) (x1 : Int32) (y : MS) (hE : fX2_name z x1 = some y) : mM l yX2_name (ws_ yX2_name cX2_name 2 none) rmX2_name E z [.int x1] none y := by
  refine m_met (by decide) rfl (Nat.le_of_ble_eq_true rfl) (fun p e s m args below meth c hC => ?_)
  intro H locs ls hP hS hl
  have hx := hC.1
  have hb := hC.2.1
  have hown := hC.2.2.2.2.2.1
  have hts := hC.2.2.2.2.2.2.1
  have hl : lv_has ls 2 [(0, .ref (E.2.2.2.1 0)), (1, .int x1)] := hl
  unfold fX2_name at hE
  refine lv_aload_n hx hb dX2_name_0 rfl (lv_at hl 0 rfl) ?_
  refine gM_32 hC hP dX2_name_1 ?_
  refine lv_iconst (v := 0) hx hb dX2_name_4 (by decide) ?_
  refine lv_aload_n hx hb dX2_name_5 rfl (lv_at hl 0 rfl) ?_
  refine gM_7 hC hP dX2_name_6 ?_
  refine lv_bipush (v := 6) hx hb dX2_name_9 (by decide) ?_
  refine aM_0 hC hP (i := (6 : Int32)) (by decide) dX2_name_11 ?_
  obtain ⟨z_2, ez_2, hE⟩ := on hE
  refine tM_20 hC hP hS (i := (0 : Int32)) (by decide) ez_2 dX2_name_12 (fun H locs hP hS => ?_)
  refine lv_aload_n hx hb dX2_name_13 rfl (lv_at hl 0 rfl) ?_
  refine gM_32 hC hP dX2_name_14 ?_
  refine lv_iconst (v := 1) hx hb dX2_name_17 (by decide) ?_
  refine lv_iload_n hx hb dX2_name_18 rfl (lv_at hl 1 rfl) ?_
  obtain ⟨z_3, ez_3, hE⟩ := on hE
  refine tM_20 hC hP hS (i := (1 : Int32)) (by decide) ez_3 dX2_name_19 (fun H locs hP hS => ?_)
  refine lv_aload_n hx hb dX2_name_20 rfl (lv_at hl 0 rfl) ?_
  refine gM_32 hC hP dX2_name_21 ?_
  refine lv_iconst (v := 2) hx hb dX2_name_24 (by decide) ?_
  refine lv_aload_n hx hb dX2_name_25 rfl (lv_at hl 0 rfl) ?_
  refine gM_7 hC hP dX2_name_26 ?_
  refine lv_bipush (v := 9) hx hb dX2_name_29 (by decide) ?_
  refine lv_iload_n hx hb dX2_name_31 rfl (lv_at hl 1 rfl) ?_
  refine lv_iadd hx hb dX2_name_32 ?_
  obtain ⟨c_4, hE⟩ := og hE
  refine aM_0 hC hP c_4 dX2_name_33 ?_
  obtain ⟨z_5, ez_5, hE⟩ := on hE
  refine tM_20 hC hP hS (i := (2 : Int32)) (by decide) ez_5 dX2_name_34 (fun H locs hP hS => ?_)
  refine lv_aload_n hx hb dX2_name_35 rfl (lv_at hl 0 rfl) ?_
  refine gM_32 hC hP dX2_name_36 ?_
  refine lv_iconst (v := 3) hx hb dX2_name_39 (by decide) ?_
  refine lv_aload_n hx hb dX2_name_40 rfl (lv_at hl 0 rfl) ?_
  refine gM_7 hC hP dX2_name_41 ?_
  refine lv_bipush (v := 39) hx hb dX2_name_44 (by decide) ?_
  refine lv_iload_n hx hb dX2_name_46 rfl (lv_at hl 1 rfl) ?_
  refine lv_iadd hx hb dX2_name_47 ?_
  obtain ⟨c_6, hE⟩ := og hE
  refine aM_0 hC hP c_6 dX2_name_48 ?_
  obtain ⟨z_7, ez_7, hE⟩ := on hE
  refine tM_20 hC hP hS (i := (3 : Int32)) (by decide) ez_7 dX2_name_49 (fun H locs hP hS => ?_)
  obtain rfl := Option.some.inj hE
  exact m_vret hC hP hS dX2_name_50
def fX2_kindAt (z : MS) (x1 : Int64) : Option Int64 := if (lg_cmp x1 (0 : Int64)) < 0 then (some (0 : Int64)) else (if 0 ≤ (lg_cmp x1 (30 : Int64)) then (some (0 : Int64)) else (if ib ((9 : Int32) + x1.toInt32) 3205 then none else (some (z.2.2.1 0 ((9 : Int32) + x1.toInt32).toNatClampNeg).toInt64)))
set_option maxHeartbeats 1000000 in
theorem wX2_kindAt {l : Launch} {E : ME} (z : MS) (x1 : Int64) (y : Int64) (hE : fX2_kindAt z x1 = some y) : mM l yX2_kindAt (ws_ yX2_kindAt cX2_kindAt 3 (some .long)) rmX2_kindAt E z [.long x1] (some (.long y)) z := by
  refine m_met (by decide) rfl (Nat.le_of_ble_eq_true rfl) (fun p e s m args below meth c hC => ?_)
  intro H locs ls hP hS hl
  have hx := hC.1
  have hb := hC.2.1
  have hown := hC.2.2.2.2.2.1
  have hts := hC.2.2.2.2.2.2.1
  have hl : lv_has ls 3 [(0, .ref (E.2.2.2.1 0)), (1, .long x1)] := hl
  unfold fX2_kindAt at hE
  refine lv_lload_n hx hb dX2_kindAt_0 rfl (lv_at hl 1 rfl) ?_
  refine lv_lconst (v := 0) hx hb dX2_kindAt_1 (by decide) ?_
  refine W.lcmp hx hb dX2_kindAt_2 ?_
  refine lv_if_lt (tgt := 28) hx hb dX2_kindAt_3 (by decide) (fun c_1 => ?_) (fun c_1 => ?_)
  · have hE := ip c_1 hE
    refine lv_lconst (v := 0) hx hb dX2_kindAt_28 (by decide) ?_
    obtain rfl := Option.some.inj hE
    exact m_lret hC hP hS dX2_kindAt_29
  · have hE := iq c_1 hE
    refine lv_lload_n hx hb dX2_kindAt_6 rfl (lv_at hl 1 rfl) ?_
    refine lv_ldc2 (v := 30) hx hb hown (hts _ q1701) dX2_kindAt_7 ?_
    refine W.lcmp hx hb dX2_kindAt_10 ?_
    refine lv_if_ge (tgt := 28) hx hb dX2_kindAt_11 (by decide) (fun c_2 => ?_) (fun c_2 => ?_)
    · have hE := ip c_2 hE
      refine lv_lconst (v := 0) hx hb dX2_kindAt_28 (by decide) ?_
      obtain rfl := Option.some.inj hE
      exact m_lret hC hP hS dX2_kindAt_29
    · have hE := iq c_2 hE
      refine lv_aload_n hx hb dX2_kindAt_14 rfl (lv_at hl 0 rfl) ?_
      refine gM_7 hC hP dX2_kindAt_15 ?_
      refine lv_bipush (v := 9) hx hb dX2_kindAt_18 (by decide) ?_
      refine lv_lload_n hx hb dX2_kindAt_20 rfl (lv_at hl 1 rfl) ?_
      refine lv_l2i hx hb dX2_kindAt_21 rfl ?_
      refine lv_iadd hx hb dX2_kindAt_22 ?_
      obtain ⟨c_3, hE⟩ := og hE
      refine aM_0 hC hP c_3 dX2_kindAt_23 ?_
      refine lv_i2l hx hb dX2_kindAt_24 rfl ?_
      refine lv_goto (tgt := 29) hx hb dX2_kindAt_25 (by decide) ?_
      obtain rfl := Option.some.inj hE
      exact m_lret hC hP hS dX2_kindAt_29
def fX2_roundOf (x0 : Int64) (x2 : Int64) : Option Int64 := if 0 < (lg_cmp x2 (0 : Int64)) then (if x2 = (0 : Int64) then none else if x2 = (0 : Int64) then none else some (((x0 - x0 / x2 * x2) + x2) - ((x0 - x0 / x2 * x2) + x2) / x2 * x2)) else (some (0 : Int64))
set_option maxHeartbeats 1000000 in
theorem wX2_roundOf {l : Launch} (x0 : Int64) (x2 : Int64) (y : Int64) (hE : fX2_roundOf x0 x2 = some y) : sM l yX2_roundOf (ws_ yX2_roundOf cX2_roundOf 4 (some .long)) rmX2_roundOf [.long x0, .long x2] (some (.long y)) := by
  refine s_met (own := RX2) (by decide) rfl (Nat.le_of_ble_eq_true rfl) (fun p e s m args below meth c hC => ?_)
  intro ls hl
  have hx := hC.1
  have hb := hC.2.1
  have hown := hC.2.2.2.2.2.1
  have hts := hC.2.2.2.2.2.2
  have hl : lv_has ls 4 [(0, .long x0), (2, .long x2)] := hl
  unfold fX2_roundOf at hE
  refine lv_lload_n hx hb dX2_roundOf_0 rfl (lv_at hl 1 rfl) ?_
  refine lv_lconst (v := 0) hx hb dX2_roundOf_1 (by decide) ?_
  refine W.lcmp hx hb dX2_roundOf_2 ?_
  refine lv_if_gt (tgt := 10) hx hb dX2_roundOf_3 (by decide) (fun c_1 => ?_) (fun c_1 => ?_)
  · have hE := ip c_1 hE
    refine lv_lload_n hx hb dX2_roundOf_10 rfl (lv_at hl 0 rfl) ?_
    refine lv_lload_n hx hb dX2_roundOf_11 rfl (lv_at hl 1 rfl) ?_
    obtain ⟨c_2, hE⟩ := og hE
    refine lv_lrem hx hb dX2_roundOf_12 c_2 ?_
    refine lv_lload_n hx hb dX2_roundOf_13 rfl (lv_at hl 1 rfl) ?_
    refine lv_ladd hx hb dX2_roundOf_14 ?_
    refine lv_lload_n hx hb dX2_roundOf_15 rfl (lv_at hl 1 rfl) ?_
    obtain ⟨c_3, hE⟩ := og hE
    refine lv_lrem hx hb dX2_roundOf_16 c_3 ?_
    obtain rfl := Option.some.inj hE
    exact s_lret hC dX2_roundOf_17
  · have hE := iq c_1 hE
    refine lv_lconst (v := 0) hx hb dX2_roundOf_6 (by decide) ?_
    refine lv_goto (tgt := 17) hx hb dX2_roundOf_7 (by decide) ?_
    obtain rfl := Option.some.inj hE
    exact s_lret hC dX2_roundOf_17
def fX2_clip (x0 : Int64) : Option Int64 := if (lg_cmp x0 (1000000 : Int64)) ≤ 0 then (if 0 ≤ (lg_cmp x0 (-1000000 : Int64)) then (some x0) else (some (-1000000 : Int64))) else (some (1000000 : Int64))
set_option maxHeartbeats 1000000 in
theorem wX2_clip {l : Launch} (x0 : Int64) (y : Int64) (hE : fX2_clip x0 = some y) : sM l yX2_clip (ws_ yX2_clip cX2_clip 2 (some .long)) rmX2_clip [.long x0] (some (.long y)) := by
  refine s_met (own := RX2) (by decide) rfl (Nat.le_of_ble_eq_true rfl) (fun p e s m args below meth c hC => ?_)
  intro ls hl
  have hx := hC.1
  have hb := hC.2.1
  have hown := hC.2.2.2.2.2.1
  have hts := hC.2.2.2.2.2.2
  have hl : lv_has ls 2 [(0, .long x0)] := hl
  unfold fX2_clip at hE
  refine lv_lload_n hx hb dX2_clip_0 rfl (lv_at hl 0 rfl) ?_
  refine lv_ldc2 (v := 1000000) hx hb hown (hts _ q1711) dX2_clip_1 ?_
  refine W.lcmp hx hb dX2_clip_4 ?_
  refine lv_if_le (tgt := 14) hx hb dX2_clip_5 (by decide) (fun c_1 => ?_) (fun c_1 => ?_)
  · have hE := ip c_1 hE
    refine lv_lload_n hx hb dX2_clip_14 rfl (lv_at hl 0 rfl) ?_
    refine lv_ldc2 (v := -1000000) hx hb hown (hts _ q1712) dX2_clip_15 ?_
    refine W.lcmp hx hb dX2_clip_18 ?_
    refine lv_if_ge (tgt := 28) hx hb dX2_clip_19 (by decide) (fun c_2 => ?_) (fun c_2 => ?_)
    · have hE := ip c_2 hE
      refine lv_lload_n hx hb dX2_clip_28 rfl (lv_at hl 0 rfl) ?_
      obtain rfl := Option.some.inj hE
      exact s_lret hC dX2_clip_29
    · have hE := iq c_2 hE
      refine lv_ldc2 (v := -1000000) hx hb hown (hts _ q1712) dX2_clip_22 ?_
      refine lv_goto (tgt := 29) hx hb dX2_clip_25 (by decide) ?_
      obtain rfl := Option.some.inj hE
      exact s_lret hC dX2_clip_29
  · have hE := iq c_1 hE
    refine lv_ldc2 (v := 1000000) hx hb hown (hts _ q1711) dX2_clip_8 ?_
    refine lv_goto (tgt := 29) hx hb dX2_clip_11 (by decide) ?_
    obtain rfl := Option.some.inj hE
    exact s_lret hC dX2_clip_29
def fX2_two (x0 : Int32) (x1 : Int64) (x3 : Int64) : Option Int64 := if x0 = (6 : Int32) then ((fX2_clip (x1 + x3)).bind fun r_2 => some r_2) else if x0 = (7 : Int32) then ((fX2_clip (x1 - x3)).bind fun r_3 => some r_3) else if x0 = (8 : Int32) then ((fX2_clip (x1 * x3)).bind fun r_4 => some r_4) else (if (lg_cmp x3 (0 : Int64)) = 0 then (some (0 : Int64)) else (if x3 = (0 : Int64) then none else (fX2_clip (x1 / x3)).bind fun r_7 => some r_7))
set_option maxHeartbeats 1000000 in
theorem wX2_two {l : Launch} (x0 : Int32) (x1 : Int64) (x3 : Int64) (y : Int64) (hE : fX2_two x0 x1 x3 = some y) : sM l yX2_two (ws_ yX2_two cX2_two 5 (some .long)) rmX2_two [.int x0, .long x1, .long x3] (some (.long y)) := by
  refine s_met (own := RX2) (by decide) rfl (Nat.le_of_ble_eq_true rfl) (fun p e s m args below meth c hC => ?_)
  intro ls hl
  have hx := hC.1
  have hb := hC.2.1
  have hown := hC.2.2.2.2.2.1
  have hts := hC.2.2.2.2.2.2
  have hl : lv_has ls 5 [(0, .int x0), (1, .long x1), (3, .long x3)] := hl
  unfold fX2_two at hE
  refine lv_iload_n hx hb dX2_two_0 rfl (lv_at hl 0 rfl) ?_
  by_cases c_1_0 : x0 = (6 : Int32)
  · have hE := ip c_1_0 hE
    refine lv_tableIn (tgt := 28) (off := 27) hx hb dX2_two_1 (by rw [c_1_0]; decide) (by rw [c_1_0]; decide) (by rw [c_1_0]; rfl) (by decide) ?_
    refine lv_lload_n hx hb dX2_two_28 rfl (lv_at hl 1 rfl) ?_
    refine lv_lload_n hx hb dX2_two_29 rfl (lv_at hl 2 rfl) ?_
    refine lv_ladd hx hb dX2_two_30 ?_
    obtain ⟨r_2, h_2, hE⟩ := ob hE
    refine s_calll [.long (x1 + x3)] hC hl.1 (wX2_clip (x1 + x3) r_2 h_2) (va_cwS 1 hts lkX2_253 rfl rfl rfl cdX2_clip ⟨Nat.le_of_ble_eq_true rfl, Nat.le_of_ble_eq_true rfl⟩) rfl rfl (lv_room (Nat.le_of_ble_eq_true rfl)) ⟨Nat.zero_le _, Nat.zero_le _⟩ dX2_two_31 ?_
    obtain rfl := Option.some.inj hE
    exact s_lret hC dX2_two_34
  have hE := iq c_1_0 hE
  by_cases c_1_1 : x0 = (7 : Int32)
  · have hE := ip c_1_1 hE
    refine lv_tableIn (tgt := 35) (off := 34) hx hb dX2_two_1 (by rw [c_1_1]; decide) (by rw [c_1_1]; decide) (by rw [c_1_1]; rfl) (by decide) ?_
    refine lv_lload_n hx hb dX2_two_35 rfl (lv_at hl 1 rfl) ?_
    refine lv_lload_n hx hb dX2_two_36 rfl (lv_at hl 2 rfl) ?_
    refine lv_lsub hx hb dX2_two_37 ?_
    obtain ⟨r_3, h_3, hE⟩ := ob hE
    refine s_calll [.long (x1 - x3)] hC hl.1 (wX2_clip (x1 - x3) r_3 h_3) (va_cwS 1 hts lkX2_253 rfl rfl rfl cdX2_clip ⟨Nat.le_of_ble_eq_true rfl, Nat.le_of_ble_eq_true rfl⟩) rfl rfl (lv_room (Nat.le_of_ble_eq_true rfl)) ⟨Nat.zero_le _, Nat.zero_le _⟩ dX2_two_38 ?_
    obtain rfl := Option.some.inj hE
    exact s_lret hC dX2_two_41
  have hE := iq c_1_1 hE
  by_cases c_1_2 : x0 = (8 : Int32)
  · have hE := ip c_1_2 hE
    refine lv_tableIn (tgt := 42) (off := 41) hx hb dX2_two_1 (by rw [c_1_2]; decide) (by rw [c_1_2]; decide) (by rw [c_1_2]; rfl) (by decide) ?_
    refine lv_lload_n hx hb dX2_two_42 rfl (lv_at hl 1 rfl) ?_
    refine lv_lload_n hx hb dX2_two_43 rfl (lv_at hl 2 rfl) ?_
    refine lv_lmul hx hb dX2_two_44 ?_
    obtain ⟨r_4, h_4, hE⟩ := ob hE
    refine s_calll [.long (x1 * x3)] hC hl.1 (wX2_clip (x1 * x3) r_4 h_4) (va_cwS 1 hts lkX2_253 rfl rfl rfl cdX2_clip ⟨Nat.le_of_ble_eq_true rfl, Nat.le_of_ble_eq_true rfl⟩) rfl rfl (lv_room (Nat.le_of_ble_eq_true rfl)) ⟨Nat.zero_le _, Nat.zero_le _⟩ dX2_two_45 ?_
    obtain rfl := Option.some.inj hE
    exact s_lret hC dX2_two_48
  have hE := iq c_1_2 hE
  refine m_tdef (tgt := 49) hx hb dX2_two_1 (by decide) (fun h1 h2 => ?_) ?_
  · have h3 : x0.toInt = 6 ∨ x0.toInt = 7 ∨ x0.toInt = 8 := by omega
    rcases h3 with h3 | h3 | h3
    · exact absurd (Int32.toInt_inj.mp (by rw [h3]; decide)) c_1_0
    · exact absurd (Int32.toInt_inj.mp (by rw [h3]; decide)) c_1_1
    · exact absurd (Int32.toInt_inj.mp (by rw [h3]; decide)) c_1_2
  refine lv_lload_n hx hb dX2_two_49 rfl (lv_at hl 2 rfl) ?_
  refine lv_lconst (v := 0) hx hb dX2_two_50 (by decide) ?_
  refine W.lcmp hx hb dX2_two_51 ?_
  refine lv_if_ne (tgt := 59) hx hb dX2_two_52 (by decide) (fun c_5 => ?_) (fun c_5 => ?_)
  · have hE := iq c_5 hE
    refine lv_lload_n hx hb dX2_two_59 rfl (lv_at hl 1 rfl) ?_
    refine lv_lload_n hx hb dX2_two_60 rfl (lv_at hl 2 rfl) ?_
    obtain ⟨c_6, hE⟩ := og hE
    refine lv_ldiv hx hb dX2_two_61 c_6 ?_
    obtain ⟨r_7, h_7, hE⟩ := ob hE
    refine s_calll [.long (x1 / x3)] hC hl.1 (wX2_clip (x1 / x3) r_7 h_7) (va_cwS 1 hts lkX2_253 rfl rfl rfl cdX2_clip ⟨Nat.le_of_ble_eq_true rfl, Nat.le_of_ble_eq_true rfl⟩) rfl rfl (lv_room (Nat.le_of_ble_eq_true rfl)) ⟨Nat.zero_le _, Nat.zero_le _⟩ dX2_two_62 ?_
    obtain rfl := Option.some.inj hE
    exact s_lret hC dX2_two_65
  · have hE := ip c_5 hE
    refine lv_lconst (v := 0) hx hb dX2_two_55 (by decide) ?_
    refine lv_goto (tgt := 65) hx hb dX2_two_56 (by decide) ?_
    obtain rfl := Option.some.inj hE
    exact s_lret hC dX2_two_65
def fX2_isAsked (x0 : Int32) (x1 : Int64) (x3 : Int64) : Option Int32 := if x0 = (10 : Int32) then (if 0 ≤ (lg_cmp x1 x3) then (some (0 : Int32)) else (some (1 : Int32))) else (if x0 = (11 : Int32) then (if 0 < (lg_cmp x1 x3) then (some (0 : Int32)) else (some (1 : Int32))) else (if x0 = (12 : Int32) then (if (lg_cmp x1 x3) ≤ 0 then (some (0 : Int32)) else (some (1 : Int32))) else (if x0 = (13 : Int32) then (if (lg_cmp x1 x3) < 0 then (some (0 : Int32)) else (some (1 : Int32))) else (if x0 = (14 : Int32) then (if (lg_cmp x1 x3) = 0 then (some (1 : Int32)) else (some (0 : Int32))) else (if (lg_cmp x1 x3) = 0 then (some (0 : Int32)) else (some (1 : Int32)))))))
set_option maxHeartbeats 1000000 in
theorem wX2_isAsked {l : Launch} (x0 : Int32) (x1 : Int64) (x3 : Int64) (y : Int32) (hE : fX2_isAsked x0 x1 x3 = some y) : sM l yX2_isAsked (ws_ yX2_isAsked cX2_isAsked 5 (some .boolean)) rmX2_isAsked [.int x0, .long x1, .long x3] (some (.int y)) := by
  refine s_met (own := RX2) (by decide) rfl (Nat.le_of_ble_eq_true rfl) (fun p e s m args below meth c hC => ?_)
  intro ls hl
  have hx := hC.1
  have hb := hC.2.1
  have hown := hC.2.2.2.2.2.1
  have hts := hC.2.2.2.2.2.2
  have hl : lv_has ls 5 [(0, .int x0), (1, .long x1), (3, .long x3)] := hl
  unfold fX2_isAsked at hE
  refine lv_iload_n hx hb dX2_isAsked_0 rfl (lv_at hl 0 rfl) ?_
  refine lv_bipush (v := 10) hx hb dX2_isAsked_1 (by decide) ?_
  refine lv_icmp_ne (tgt := 20) hx hb dX2_isAsked_3 (by decide) (fun c_1 => ?_) (fun c_1 => ?_)
  · have hE := iq c_1 hE
    refine lv_iload_n hx hb dX2_isAsked_20 rfl (lv_at hl 0 rfl) ?_
    refine lv_bipush (v := 11) hx hb dX2_isAsked_21 (by decide) ?_
    refine lv_icmp_ne (tgt := 40) hx hb dX2_isAsked_23 (by decide) (fun c_2 => ?_) (fun c_2 => ?_)
    · have hE := iq c_2 hE
      refine lv_iload_n hx hb dX2_isAsked_40 rfl (lv_at hl 0 rfl) ?_
      refine lv_bipush (v := 12) hx hb dX2_isAsked_41 (by decide) ?_
      refine lv_icmp_ne (tgt := 60) hx hb dX2_isAsked_43 (by decide) (fun c_3 => ?_) (fun c_3 => ?_)
      · have hE := iq c_3 hE
        refine lv_iload_n hx hb dX2_isAsked_60 rfl (lv_at hl 0 rfl) ?_
        refine lv_bipush (v := 13) hx hb dX2_isAsked_61 (by decide) ?_
        refine lv_icmp_ne (tgt := 80) hx hb dX2_isAsked_63 (by decide) (fun c_4 => ?_) (fun c_4 => ?_)
        · have hE := iq c_4 hE
          refine lv_iload_n hx hb dX2_isAsked_80 rfl (lv_at hl 0 rfl) ?_
          refine lv_bipush (v := 14) hx hb dX2_isAsked_81 (by decide) ?_
          refine lv_icmp_ne (tgt := 100) hx hb dX2_isAsked_83 (by decide) (fun c_5 => ?_) (fun c_5 => ?_)
          · have hE := iq c_5 hE
            refine lv_lload_n hx hb dX2_isAsked_100 rfl (lv_at hl 1 rfl) ?_
            refine lv_lload_n hx hb dX2_isAsked_101 rfl (lv_at hl 2 rfl) ?_
            refine W.lcmp hx hb dX2_isAsked_102 ?_
            refine lv_if_eq (tgt := 110) hx hb dX2_isAsked_103 (by decide) (fun c_6 => ?_) (fun c_6 => ?_)
            · have hE := ip c_6 hE
              refine lv_iconst (v := 0) hx hb dX2_isAsked_110 (by decide) ?_
              obtain rfl := Option.some.inj hE
              exact s_zret (v := (0 : Int32)) hC (by decide) dX2_isAsked_111
            · have hE := iq c_6 hE
              refine lv_iconst (v := 1) hx hb dX2_isAsked_106 (by decide) ?_
              refine lv_goto (tgt := 111) hx hb dX2_isAsked_107 (by decide) ?_
              obtain rfl := Option.some.inj hE
              exact s_zret (v := (1 : Int32)) hC (by decide) dX2_isAsked_111
          · have hE := ip c_5 hE
            refine lv_lload_n hx hb dX2_isAsked_86 rfl (lv_at hl 1 rfl) ?_
            refine lv_lload_n hx hb dX2_isAsked_87 rfl (lv_at hl 2 rfl) ?_
            refine W.lcmp hx hb dX2_isAsked_88 ?_
            refine lv_if_ne (tgt := 96) hx hb dX2_isAsked_89 (by decide) (fun c_7 => ?_) (fun c_7 => ?_)
            · have hE := iq c_7 hE
              refine lv_iconst (v := 0) hx hb dX2_isAsked_96 (by decide) ?_
              refine lv_goto (tgt := 111) hx hb dX2_isAsked_97 (by decide) ?_
              obtain rfl := Option.some.inj hE
              exact s_zret (v := (0 : Int32)) hC (by decide) dX2_isAsked_111
            · have hE := ip c_7 hE
              refine lv_iconst (v := 1) hx hb dX2_isAsked_92 (by decide) ?_
              refine lv_goto (tgt := 111) hx hb dX2_isAsked_93 (by decide) ?_
              obtain rfl := Option.some.inj hE
              exact s_zret (v := (1 : Int32)) hC (by decide) dX2_isAsked_111
        · have hE := ip c_4 hE
          refine lv_lload_n hx hb dX2_isAsked_66 rfl (lv_at hl 1 rfl) ?_
          refine lv_lload_n hx hb dX2_isAsked_67 rfl (lv_at hl 2 rfl) ?_
          refine W.lcmp hx hb dX2_isAsked_68 ?_
          refine lv_if_lt (tgt := 76) hx hb dX2_isAsked_69 (by decide) (fun c_8 => ?_) (fun c_8 => ?_)
          · have hE := ip c_8 hE
            refine lv_iconst (v := 0) hx hb dX2_isAsked_76 (by decide) ?_
            refine lv_goto (tgt := 111) hx hb dX2_isAsked_77 (by decide) ?_
            obtain rfl := Option.some.inj hE
            exact s_zret (v := (0 : Int32)) hC (by decide) dX2_isAsked_111
          · have hE := iq c_8 hE
            refine lv_iconst (v := 1) hx hb dX2_isAsked_72 (by decide) ?_
            refine lv_goto (tgt := 111) hx hb dX2_isAsked_73 (by decide) ?_
            obtain rfl := Option.some.inj hE
            exact s_zret (v := (1 : Int32)) hC (by decide) dX2_isAsked_111
      · have hE := ip c_3 hE
        refine lv_lload_n hx hb dX2_isAsked_46 rfl (lv_at hl 1 rfl) ?_
        refine lv_lload_n hx hb dX2_isAsked_47 rfl (lv_at hl 2 rfl) ?_
        refine W.lcmp hx hb dX2_isAsked_48 ?_
        refine lv_if_le (tgt := 56) hx hb dX2_isAsked_49 (by decide) (fun c_9 => ?_) (fun c_9 => ?_)
        · have hE := ip c_9 hE
          refine lv_iconst (v := 0) hx hb dX2_isAsked_56 (by decide) ?_
          refine lv_goto (tgt := 111) hx hb dX2_isAsked_57 (by decide) ?_
          obtain rfl := Option.some.inj hE
          exact s_zret (v := (0 : Int32)) hC (by decide) dX2_isAsked_111
        · have hE := iq c_9 hE
          refine lv_iconst (v := 1) hx hb dX2_isAsked_52 (by decide) ?_
          refine lv_goto (tgt := 111) hx hb dX2_isAsked_53 (by decide) ?_
          obtain rfl := Option.some.inj hE
          exact s_zret (v := (1 : Int32)) hC (by decide) dX2_isAsked_111
    · have hE := ip c_2 hE
      refine lv_lload_n hx hb dX2_isAsked_26 rfl (lv_at hl 1 rfl) ?_
      refine lv_lload_n hx hb dX2_isAsked_27 rfl (lv_at hl 2 rfl) ?_
      refine W.lcmp hx hb dX2_isAsked_28 ?_
      refine lv_if_gt (tgt := 36) hx hb dX2_isAsked_29 (by decide) (fun c_10 => ?_) (fun c_10 => ?_)
      · have hE := ip c_10 hE
        refine lv_iconst (v := 0) hx hb dX2_isAsked_36 (by decide) ?_
        refine lv_goto (tgt := 111) hx hb dX2_isAsked_37 (by decide) ?_
        obtain rfl := Option.some.inj hE
        exact s_zret (v := (0 : Int32)) hC (by decide) dX2_isAsked_111
      · have hE := iq c_10 hE
        refine lv_iconst (v := 1) hx hb dX2_isAsked_32 (by decide) ?_
        refine lv_goto (tgt := 111) hx hb dX2_isAsked_33 (by decide) ?_
        obtain rfl := Option.some.inj hE
        exact s_zret (v := (1 : Int32)) hC (by decide) dX2_isAsked_111
  · have hE := ip c_1 hE
    refine lv_lload_n hx hb dX2_isAsked_6 rfl (lv_at hl 1 rfl) ?_
    refine lv_lload_n hx hb dX2_isAsked_7 rfl (lv_at hl 2 rfl) ?_
    refine W.lcmp hx hb dX2_isAsked_8 ?_
    refine lv_if_ge (tgt := 16) hx hb dX2_isAsked_9 (by decide) (fun c_11 => ?_) (fun c_11 => ?_)
    · have hE := ip c_11 hE
      refine lv_iconst (v := 0) hx hb dX2_isAsked_16 (by decide) ?_
      refine lv_goto (tgt := 111) hx hb dX2_isAsked_17 (by decide) ?_
      obtain rfl := Option.some.inj hE
      exact s_zret (v := (0 : Int32)) hC (by decide) dX2_isAsked_111
    · have hE := iq c_11 hE
      refine lv_iconst (v := 1) hx hb dX2_isAsked_12 (by decide) ?_
      refine lv_goto (tgt := 111) hx hb dX2_isAsked_13 (by decide) ?_
      obtain rfl := Option.some.inj hE
      exact s_zret (v := (1 : Int32)) hC (by decide) dX2_isAsked_111
def fX2_joined (x0 : Int32) (x1 : Int32) (x2 : Int32) : Option Int32 := if x0 = (21 : Int32) then (if x1 = 0 then (some (0 : Int32)) else (if x2 = 0 then (some (0 : Int32)) else (some (1 : Int32)))) else (if x1 = 0 then (if x2 = 0 then (some (0 : Int32)) else (some (1 : Int32))) else (some (1 : Int32)))
set_option maxHeartbeats 1000000 in
theorem wX2_joined {l : Launch} (x0 : Int32) (x1 : Int32) (x2 : Int32) (y : Int32) (hE : fX2_joined x0 x1 x2 = some y) : sM l yX2_joined (ws_ yX2_joined cX2_joined 3 (some .boolean)) rmX2_joined [.int x0, .int x1, .int x2] (some (.int y)) := by
  refine s_met (own := RX2) (by decide) rfl (Nat.le_of_ble_eq_true rfl) (fun p e s m args below meth c hC => ?_)
  intro ls hl
  have hx := hC.1
  have hb := hC.2.1
  have hown := hC.2.2.2.2.2.1
  have hts := hC.2.2.2.2.2.2
  have hl : lv_has ls 3 [(0, .int x0), (1, .int x1), (2, .int x2)] := hl
  unfold fX2_joined at hE
  refine lv_iload_n hx hb dX2_joined_0 rfl (lv_at hl 0 rfl) ?_
  refine lv_bipush (v := 21) hx hb dX2_joined_1 (by decide) ?_
  refine lv_icmp_ne (tgt := 22) hx hb dX2_joined_3 (by decide) (fun c_1 => ?_) (fun c_1 => ?_)
  · have hE := iq c_1 hE
    refine lv_iload_n hx hb dX2_joined_22 rfl (lv_at hl 1 rfl) ?_
    refine lv_if_ne (tgt := 30) hx hb dX2_joined_23 (by decide) (fun c_2 => ?_) (fun c_2 => ?_)
    · have hE := iq c_2 hE
      refine lv_iconst (v := 1) hx hb dX2_joined_30 (by decide) ?_
      refine lv_goto (tgt := 35) hx hb dX2_joined_31 (by decide) ?_
      obtain rfl := Option.some.inj hE
      exact s_zret (v := (1 : Int32)) hC (by decide) dX2_joined_35
    · have hE := ip c_2 hE
      refine lv_iload_n hx hb dX2_joined_26 rfl (lv_at hl 2 rfl) ?_
      refine lv_if_eq (tgt := 34) hx hb dX2_joined_27 (by decide) (fun c_3 => ?_) (fun c_3 => ?_)
      · have hE := ip c_3 hE
        refine lv_iconst (v := 0) hx hb dX2_joined_34 (by decide) ?_
        obtain rfl := Option.some.inj hE
        exact s_zret (v := (0 : Int32)) hC (by decide) dX2_joined_35
      · have hE := iq c_3 hE
        refine lv_iconst (v := 1) hx hb dX2_joined_30 (by decide) ?_
        refine lv_goto (tgt := 35) hx hb dX2_joined_31 (by decide) ?_
        obtain rfl := Option.some.inj hE
        exact s_zret (v := (1 : Int32)) hC (by decide) dX2_joined_35
  · have hE := ip c_1 hE
    refine lv_iload_n hx hb dX2_joined_6 rfl (lv_at hl 1 rfl) ?_
    refine lv_if_eq (tgt := 18) hx hb dX2_joined_7 (by decide) (fun c_4 => ?_) (fun c_4 => ?_)
    · have hE := ip c_4 hE
      refine lv_iconst (v := 0) hx hb dX2_joined_18 (by decide) ?_
      refine lv_goto (tgt := 35) hx hb dX2_joined_19 (by decide) ?_
      obtain rfl := Option.some.inj hE
      exact s_zret (v := (0 : Int32)) hC (by decide) dX2_joined_35
    · have hE := iq c_4 hE
      refine lv_iload_n hx hb dX2_joined_10 rfl (lv_at hl 2 rfl) ?_
      refine lv_if_eq (tgt := 18) hx hb dX2_joined_11 (by decide) (fun c_5 => ?_) (fun c_5 => ?_)
      · have hE := ip c_5 hE
        refine lv_iconst (v := 0) hx hb dX2_joined_18 (by decide) ?_
        refine lv_goto (tgt := 35) hx hb dX2_joined_19 (by decide) ?_
        obtain rfl := Option.some.inj hE
        exact s_zret (v := (0 : Int32)) hC (by decide) dX2_joined_35
      · have hE := iq c_5 hE
        refine lv_iconst (v := 1) hx hb dX2_joined_14 (by decide) ?_
        refine lv_goto (tgt := 35) hx hb dX2_joined_15 (by decide) ?_
        obtain rfl := Option.some.inj hE
        exact s_zret (v := (1 : Int32)) hC (by decide) dX2_joined_35
def fX2_summedUp_J212 (k : Nat) (z : MS) (v3 : Int32) (v4 : Int32) (x5 : Int32) (x6 : Int32) (x7 : Int32) (t0 : Int64) (t1 : Int32) : Option ((Int32 × Int32 × Int32 × MS) ⊕ MS) := if ib t1 330 then none else (nm (mL z 21 (vp_updL (z.2.2.2 21) t1.toNatClampNeg t0)) fun z_15 => some (.inl (x5, x6, (x7 + (1 : Int32)), z_15)))
set_option maxHeartbeats 1000000 in
theorem wX2_summedUp_J212 {p : Program} {l : Launch} {e : Env} {s : State} {m : MethodId} {args : Array Value} {below : List Frame} {meth : Method} {c : Code} {E : ME} {Q : State → Prop} (k : Nat) (z : MS) (v3 : Int32) (v4 : Int32) (x5 : Int32) (x6 : Int32) (x7 : Int32) (t0 : Int64) (t1 : Int32) (hC : mC E cX2_summedUp 10 (some .long) p s m args meth c) (y : (Int32 × Int32 × Int32 × MS) ⊕ MS) (hE : fX2_summedUp_J212 k z v3 v4 x5 x6 x7 t0 t1 = some y) (hc : ∀ a : Int32 × Int32 × Int32 × MS, y = .inl a → mW p l e rmX2_summedUp s m args below meth c E 10 Q 38 [(0, .ref (E.2.2.2.1 0)), (3, .int v3), (4, .int v4), (5, .int a.1), (6, .int a.2.1), (7, .int a.2.2.1)] [] a.2.2.2) (hx1 : ∀ b : MS, y = .inr b → mW p l e rmX2_summedUp s m args below meth c E 10 Q 406 [(0, .ref (E.2.2.2.1 0))] [] b) : mW p l e rmX2_summedUp s m args below meth c E 10 Q 212 [(0, .ref (E.2.2.2.1 0)), (3, .int v3), (4, .int v4), (5, .int x5), (6, .int x6), (7, .int x7)] [.long t0, .int t1, .ref (E.2.2.2.1 7)] z := by
  intro H locs ls hP hS hl
  have hx := hC.1
  have hb := hC.2.1
  have hown := hC.2.2.2.2.2.1
  have hts := hC.2.2.2.2.2.2.1
  unfold fX2_summedUp_J212 at hE
  obtain ⟨c_15, hE⟩ := og hE
  obtain ⟨z_15, ez_15, hE⟩ := on hE
  refine tM_21 hC hP hS c_15 ez_15 dX2_summedUp_212 (fun H locs hP hS => ?_)
  refine lv_goto (tgt := 400) hx hb dX2_summedUp_213 (by decide) ?_
  refine lv_iinc (v := (x7 + (1 : Int32))) (lv' := [(7, .int (x7 + (1 : Int32))), (0, .ref (E.2.2.2.1 0)), (3, .int v3), (4, .int v4), (5, .int x5), (6, .int x6)]) hx hb dX2_summedUp_400 hl (k := 5) rfl rfl (Nat.le_of_ble_eq_true rfl) rfl (fun ls hl => ?_)
  refine lv_goto (tgt := 38) hx hb dX2_summedUp_403 (by decide) ?_
  exact hc _ (Option.some.inj hE).symm H locs ls hP hS (lv_sub hl [1, 2, 3, 4, 5, 0] rfl)
def fX2_summedUp_J172 (k : Nat) (z : MS) (v3 : Int32) (v4 : Int32) (x5 : Int32) (x6 : Int32) (x7 : Int32) (x8 : Int32) : Option ((Int32 × Int32 × Int32 × MS) ⊕ MS) := if x8 = (5 : Int32) then (if ib (x5 - (1 : Int32)) 330 then none else ((fX2_summedUp_J212 k z v3 v4 x5 x6 x7 (-(z.2.2.2 21 (x5 - (1 : Int32)).toNatClampNeg)) (x5 - (1 : Int32))))) else (if ib (x5 - (1 : Int32)) 330 then none else ((fX2_kindAt z (z.2.2.2 21 (x5 - (1 : Int32)).toNatClampNeg)).bind fun r_14 => (fX2_summedUp_J212 k z v3 v4 x5 x6 x7 r_14 (x5 - (1 : Int32)))))
set_option maxHeartbeats 1000000 in
theorem wX2_summedUp_J172 {p : Program} {l : Launch} {e : Env} {s : State} {m : MethodId} {args : Array Value} {below : List Frame} {meth : Method} {c : Code} {E : ME} {Q : State → Prop} (k : Nat) (z : MS) (v3 : Int32) (v4 : Int32) (x5 : Int32) (x6 : Int32) (x7 : Int32) (x8 : Int32) (hC : mC E cX2_summedUp 10 (some .long) p s m args meth c) (y : (Int32 × Int32 × Int32 × MS) ⊕ MS) (hE : fX2_summedUp_J172 k z v3 v4 x5 x6 x7 x8 = some y) (hc : ∀ a : Int32 × Int32 × Int32 × MS, y = .inl a → mW p l e rmX2_summedUp s m args below meth c E 10 Q 38 [(0, .ref (E.2.2.2.1 0)), (3, .int v3), (4, .int v4), (5, .int a.1), (6, .int a.2.1), (7, .int a.2.2.1)] [] a.2.2.2) (hx1 : ∀ b : MS, y = .inr b → mW p l e rmX2_summedUp s m args below meth c E 10 Q 406 [(0, .ref (E.2.2.2.1 0))] [] b) : mW p l e rmX2_summedUp s m args below meth c E 10 Q 172 [(0, .ref (E.2.2.2.1 0)), (3, .int v3), (4, .int v4), (5, .int x5), (6, .int x6), (7, .int x7), (8, .int x8)] [] z := by
  intro H locs ls hP hS hl
  have hx := hC.1
  have hb := hC.2.1
  have hown := hC.2.2.2.2.2.1
  have hts := hC.2.2.2.2.2.2.1
  unfold fX2_summedUp_J172 at hE
  refine lv_aload_n hx hb dX2_summedUp_172 rfl (lv_at hl 0 rfl) ?_
  refine gM_35 hC hP dX2_summedUp_173 ?_
  refine lv_iload hx hb dX2_summedUp_176 (lv_at hl 3 rfl) ?_
  refine lv_iconst (v := 1) hx hb dX2_summedUp_178 (by decide) ?_
  refine lv_isub hx hb dX2_summedUp_179 ?_
  refine lv_iload hx hb dX2_summedUp_180 (lv_at hl 6 rfl) ?_
  refine lv_iconst (v := 5) hx hb dX2_summedUp_182 (by decide) ?_
  refine lv_icmp_ne (tgt := 199) hx hb dX2_summedUp_183 (by decide) (fun c_12 => ?_) (fun c_12 => ?_)
  · have hE := iq c_12 hE
    refine lv_aload_n hx hb dX2_summedUp_199 rfl (lv_at hl 0 rfl) ?_
    refine lv_aload_n hx hb dX2_summedUp_200 rfl (lv_at hl 0 rfl) ?_
    refine gM_35 hC hP dX2_summedUp_201 ?_
    refine lv_iload hx hb dX2_summedUp_204 (lv_at hl 3 rfl) ?_
    refine lv_iconst (v := 1) hx hb dX2_summedUp_206 (by decide) ?_
    refine lv_isub hx hb dX2_summedUp_207 ?_
    obtain ⟨c_13, hE⟩ := og hE
    refine aM_21 hC hP c_13 dX2_summedUp_208 ?_
    obtain ⟨r_14, h_14, hE⟩ := ob hE
    refine m_calll [.long (z.2.2.2 21 (x5 - (1 : Int32)).toNatClampNeg)] hC hP hS hl.1 (wX2_kindAt z (z.2.2.2 21 (x5 - (1 : Int32)).toNatClampNeg) r_14 h_14) (cwV 1 hts lkX2_259 rfl rfl rfl cdX2_kindAt ⟨Nat.le_of_ble_eq_true rfl, Nat.le_of_ble_eq_true rfl⟩) rfl rfl (lv_room (Nat.le_of_ble_eq_true rfl)) dX2_summedUp_209 (fun H locs hP hS => ?_)
    exact wX2_summedUp_J212 k z v3 v4 x5 x6 x7 r_14 (x5 - (1 : Int32)) hC y hE hc hx1 H locs ls hP hS (lv_sub hl [0, 1, 2, 3, 4, 5] rfl)
  · have hE := ip c_12 hE
    refine lv_aload_n hx hb dX2_summedUp_186 rfl (lv_at hl 0 rfl) ?_
    refine gM_35 hC hP dX2_summedUp_187 ?_
    refine lv_iload hx hb dX2_summedUp_190 (lv_at hl 3 rfl) ?_
    refine lv_iconst (v := 1) hx hb dX2_summedUp_192 (by decide) ?_
    refine lv_isub hx hb dX2_summedUp_193 ?_
    obtain ⟨c_16, hE⟩ := og hE
    refine aM_21 hC hP c_16 dX2_summedUp_194 ?_
    refine lv_lneg hx hb dX2_summedUp_195 ?_
    refine lv_goto (tgt := 212) hx hb dX2_summedUp_196 (by decide) ?_
    exact wX2_summedUp_J212 k z v3 v4 x5 x6 x7 (-(z.2.2.2 21 (x5 - (1 : Int32)).toNatClampNeg)) (x5 - (1 : Int32)) hC y hE hc hx1 H locs ls hP hS (lv_sub hl [0, 1, 2, 3, 4, 5] rfl)
def fX2_summedUp_J363 (k : Nat) (z : MS) (v3 : Int32) (v4 : Int32) (x5 : Int32) (x6 : Int32) (x7 : Int32) (t0 : Int32) (t1 : Int32) : Option ((Int32 × Int32 × Int32 × MS) ⊕ MS) := if ib t1 330 then none else (nm (mA z 22 (upd (z.2.2.1 22) t1.toNatClampNeg (t0 &&& 1))) fun z_27 => some (.inl (x5, x6, (x7 + (1 : Int32)), z_27)))
set_option maxHeartbeats 1000000 in
theorem wX2_summedUp_J363 {p : Program} {l : Launch} {e : Env} {s : State} {m : MethodId} {args : Array Value} {below : List Frame} {meth : Method} {c : Code} {E : ME} {Q : State → Prop} (k : Nat) (z : MS) (v3 : Int32) (v4 : Int32) (x5 : Int32) (x6 : Int32) (x7 : Int32) (t0 : Int32) (t1 : Int32) (hC : mC E cX2_summedUp 10 (some .long) p s m args meth c) (y : (Int32 × Int32 × Int32 × MS) ⊕ MS) (hE : fX2_summedUp_J363 k z v3 v4 x5 x6 x7 t0 t1 = some y) (hc : ∀ a : Int32 × Int32 × Int32 × MS, y = .inl a → mW p l e rmX2_summedUp s m args below meth c E 10 Q 38 [(0, .ref (E.2.2.2.1 0)), (3, .int v3), (4, .int v4), (5, .int a.1), (6, .int a.2.1), (7, .int a.2.2.1)] [] a.2.2.2) (hx1 : ∀ b : MS, y = .inr b → mW p l e rmX2_summedUp s m args below meth c E 10 Q 406 [(0, .ref (E.2.2.2.1 0))] [] b) : mW p l e rmX2_summedUp s m args below meth c E 10 Q 363 [(0, .ref (E.2.2.2.1 0)), (3, .int v3), (4, .int v4), (5, .int x5), (6, .int x6), (7, .int x7)] [.int t0, .int t1, .ref (E.2.2.2.1 8)] z := by
  intro H locs ls hP hS hl
  have hx := hC.1
  have hb := hC.2.1
  have hown := hC.2.2.2.2.2.1
  have hts := hC.2.2.2.2.2.2.1
  unfold fX2_summedUp_J363 at hE
  obtain ⟨c_27, hE⟩ := og hE
  obtain ⟨z_27, ez_27, hE⟩ := on hE
  refine tM_22 hC hP hS c_27 ez_27 dX2_summedUp_363 (fun H locs hP hS => ?_)
  refine lv_goto (tgt := 400) hx hb dX2_summedUp_364 (by decide) ?_
  refine lv_iinc (v := (x7 + (1 : Int32))) (lv' := [(7, .int (x7 + (1 : Int32))), (0, .ref (E.2.2.2.1 0)), (3, .int v3), (4, .int v4), (5, .int x5), (6, .int x6)]) hx hb dX2_summedUp_400 hl (k := 5) rfl rfl (Nat.le_of_ble_eq_true rfl) rfl (fun ls hl => ?_)
  refine lv_goto (tgt := 38) hx hb dX2_summedUp_403 (by decide) ?_
  exact hc _ (Option.some.inj hE).symm H locs ls hP hS (lv_sub hl [1, 2, 3, 4, 5, 0] rfl)
def fX2_summedUp_J283 (k : Nat) (z : MS) (v3 : Int32) (v4 : Int32) (x5 : Int32) (x6 : Int32) (x7 : Int32) (t0 : Int64) (t1 : Int32) : Option ((Int32 × Int32 × Int32 × MS) ⊕ MS) := if ib t1 330 then none else (nm (mL z 21 (vp_updL (z.2.2.2 21) t1.toNatClampNeg t0)) fun z_36 => some (.inl (x5, x6, (x7 + (1 : Int32)), z_36)))
set_option maxHeartbeats 1000000 in
theorem wX2_summedUp_J283 {p : Program} {l : Launch} {e : Env} {s : State} {m : MethodId} {args : Array Value} {below : List Frame} {meth : Method} {c : Code} {E : ME} {Q : State → Prop} (k : Nat) (z : MS) (v3 : Int32) (v4 : Int32) (x5 : Int32) (x6 : Int32) (x7 : Int32) (t0 : Int64) (t1 : Int32) (hC : mC E cX2_summedUp 10 (some .long) p s m args meth c) (y : (Int32 × Int32 × Int32 × MS) ⊕ MS) (hE : fX2_summedUp_J283 k z v3 v4 x5 x6 x7 t0 t1 = some y) (hc : ∀ a : Int32 × Int32 × Int32 × MS, y = .inl a → mW p l e rmX2_summedUp s m args below meth c E 10 Q 38 [(0, .ref (E.2.2.2.1 0)), (3, .int v3), (4, .int v4), (5, .int a.1), (6, .int a.2.1), (7, .int a.2.2.1)] [] a.2.2.2) (hx1 : ∀ b : MS, y = .inr b → mW p l e rmX2_summedUp s m args below meth c E 10 Q 406 [(0, .ref (E.2.2.2.1 0))] [] b) : mW p l e rmX2_summedUp s m args below meth c E 10 Q 283 [(0, .ref (E.2.2.2.1 0)), (3, .int v3), (4, .int v4), (5, .int x5), (6, .int x6), (7, .int x7)] [.long t0, .int t1, .ref (E.2.2.2.1 7)] z := by
  intro H locs ls hP hS hl
  have hx := hC.1
  have hb := hC.2.1
  have hown := hC.2.2.2.2.2.1
  have hts := hC.2.2.2.2.2.2.1
  unfold fX2_summedUp_J283 at hE
  obtain ⟨c_36, hE⟩ := og hE
  obtain ⟨z_36, ez_36, hE⟩ := on hE
  refine tM_21 hC hP hS c_36 ez_36 dX2_summedUp_283 (fun H locs hP hS => ?_)
  refine lv_goto (tgt := 400) hx hb dX2_summedUp_284 (by decide) ?_
  refine lv_iinc (v := (x7 + (1 : Int32))) (lv' := [(7, .int (x7 + (1 : Int32))), (0, .ref (E.2.2.2.1 0)), (3, .int v3), (4, .int v4), (5, .int x5), (6, .int x6)]) hx hb dX2_summedUp_400 hl (k := 5) rfl rfl (Nat.le_of_ble_eq_true rfl) rfl (fun ls hl => ?_)
  refine lv_goto (tgt := 38) hx hb dX2_summedUp_403 (by decide) ?_
  exact hc _ (Option.some.inj hE).symm H locs ls hP hS (lv_sub hl [1, 2, 3, 4, 5, 0] rfl)
def fX2_summedUp_J119 (k : Nat) (z : MS) (v3 : Int32) (v4 : Int32) (x5 : Int32) (x6 : Int32) (x7 : Int32) (x8 : Int32) : Option ((Int32 × Int32 × Int32 × MS) ⊕ MS) := if x8 = (3 : Int32) then (if ib (x6 + (-1 : Int32)) 330 then none else (if (z.2.2.1 22 (x6 + (-1 : Int32)).toNatClampNeg) = 0 then (if ib (x5 + (-1 : Int32)) 330 then none else (if ib ((x5 + (-1 : Int32)) - (1 : Int32)) 330 then none else (nm (mL z 21 (vp_updL (z.2.2.2 21) ((x5 + (-1 : Int32)) - (1 : Int32)).toNatClampNeg (z.2.2.2 21 (x5 + (-1 : Int32)).toNatClampNeg))) fun z_43 => some (.inl ((x5 + (-1 : Int32)), (x6 + (-1 : Int32)), (x7 + (1 : Int32)), z_43))))) else (some (.inl ((x5 + (-1 : Int32)), (x6 + (-1 : Int32)), (x7 + (1 : Int32)), z))))) else (if x8 = (5 : Int32) then ((fX2_summedUp_J172 k z v3 v4 x5 x6 x7 x8)) else (if x8 = (2 : Int32) then ((fX2_summedUp_J172 k z v3 v4 x5 x6 x7 x8)) else (if (10 : Int32) ≤ x8 then (if (20 : Int32) ≤ x8 then (if x8 = (20 : Int32) then (if ib (x6 - (1 : Int32)) 330 then none else (if (z.2.2.1 22 (x6 - (1 : Int32)).toNatClampNeg) = 0 then ((fX2_summedUp_J363 k z v3 v4 x5 x6 x7 (1 : Int32) (x6 - (1 : Int32)))) else ((fX2_summedUp_J363 k z v3 v4 x5 x6 x7 (0 : Int32) (x6 - (1 : Int32)))))) else (if ib ((x6 + (-1 : Int32)) - (1 : Int32)) 330 then none else (if ib (x6 + (-1 : Int32)) 330 then none else ((fX2_joined x8 (z.2.2.1 22 ((x6 + (-1 : Int32)) - (1 : Int32)).toNatClampNeg) (z.2.2.1 22 (x6 + (-1 : Int32)).toNatClampNeg)).bind fun r_23 => if ib ((x6 + (-1 : Int32)) - (1 : Int32)) 330 then none else (nm (mA z 22 (upd (z.2.2.1 22) ((x6 + (-1 : Int32)) - (1 : Int32)).toNatClampNeg (r_23 &&& 1))) fun z_24 => some (.inl (x5, (x6 + (-1 : Int32)), (x7 + (1 : Int32)), z_24))))))) else (if ib (x5 + (-2 : Int32)) 330 then none else (if ib ((x5 + (-2 : Int32)) + (1 : Int32)) 330 then none else ((fX2_isAsked x8 (z.2.2.2 21 (x5 + (-2 : Int32)).toNatClampNeg) (z.2.2.2 21 ((x5 + (-2 : Int32)) + (1 : Int32)).toNatClampNeg)).bind fun r_30 => if ib x6 330 then none else (nm (mA z 22 (upd (z.2.2.1 22) x6.toNatClampNeg (r_30 &&& 1))) fun z_31 => some (.inl ((x5 + (-2 : Int32)), (x6 + (1 : Int32)), (x7 + (1 : Int32)), z_31))))))) else (if x8 = (4 : Int32) then (if ib ((x5 + (-1 : Int32)) - (1 : Int32)) 330 then none else (if ib (x5 + (-1 : Int32)) 330 then none else ((fX2_roundOf (z.2.2.2 21 ((x5 + (-1 : Int32)) - (1 : Int32)).toNatClampNeg) (z.2.2.2 21 (x5 + (-1 : Int32)).toNatClampNeg)).bind fun r_39 => (fX2_summedUp_J283 k z v3 v4 (x5 + (-1 : Int32)) x6 x7 r_39 ((x5 + (-1 : Int32)) - (1 : Int32)))))) else (if ib ((x5 + (-1 : Int32)) - (1 : Int32)) 330 then none else (if ib (x5 + (-1 : Int32)) 330 then none else ((fX2_two x8 (z.2.2.2 21 ((x5 + (-1 : Int32)) - (1 : Int32)).toNatClampNeg) (z.2.2.2 21 (x5 + (-1 : Int32)).toNatClampNeg)).bind fun r_35 => (fX2_summedUp_J283 k z v3 v4 (x5 + (-1 : Int32)) x6 x7 r_35 ((x5 + (-1 : Int32)) - (1 : Int32))))))))))
set_option maxHeartbeats 1000000 in
theorem wX2_summedUp_J119 {p : Program} {l : Launch} {e : Env} {s : State} {m : MethodId} {args : Array Value} {below : List Frame} {meth : Method} {c : Code} {E : ME} {Q : State → Prop} (k : Nat) (z : MS) (v3 : Int32) (v4 : Int32) (x5 : Int32) (x6 : Int32) (x7 : Int32) (x8 : Int32) (hC : mC E cX2_summedUp 10 (some .long) p s m args meth c) (y : (Int32 × Int32 × Int32 × MS) ⊕ MS) (hE : fX2_summedUp_J119 k z v3 v4 x5 x6 x7 x8 = some y) (hc : ∀ a : Int32 × Int32 × Int32 × MS, y = .inl a → mW p l e rmX2_summedUp s m args below meth c E 10 Q 38 [(0, .ref (E.2.2.2.1 0)), (3, .int v3), (4, .int v4), (5, .int a.1), (6, .int a.2.1), (7, .int a.2.2.1)] [] a.2.2.2) (hx1 : ∀ b : MS, y = .inr b → mW p l e rmX2_summedUp s m args below meth c E 10 Q 406 [(0, .ref (E.2.2.2.1 0))] [] b) : mW p l e rmX2_summedUp s m args below meth c E 10 Q 119 [(0, .ref (E.2.2.2.1 0)), (3, .int v3), (4, .int v4), (5, .int x5), (6, .int x6), (7, .int x7), (8, .int x8)] [] z := by
  intro H locs ls hP hS hl
  have hx := hC.1
  have hb := hC.2.1
  have hown := hC.2.2.2.2.2.1
  have hts := hC.2.2.2.2.2.2.1
  unfold fX2_summedUp_J119 at hE
  refine lv_iload hx hb dX2_summedUp_119 (lv_at hl 6 rfl) ?_
  refine lv_iconst (v := 3) hx hb dX2_summedUp_121 (by decide) ?_
  refine lv_icmp_ne (tgt := 160) hx hb dX2_summedUp_122 (by decide) (fun c_10 => ?_) (fun c_10 => ?_)
  · have hE := iq c_10 hE
    refine lv_iload hx hb dX2_summedUp_160 (lv_at hl 6 rfl) ?_
    refine lv_iconst (v := 5) hx hb dX2_summedUp_162 (by decide) ?_
    refine lv_icmp_eq (tgt := 172) hx hb dX2_summedUp_163 (by decide) (fun c_11 => ?_) (fun c_11 => ?_)
    · have hE := ip c_11 hE
      exact wX2_summedUp_J172 k z v3 v4 x5 x6 x7 x8 hC y hE hc hx1 H locs ls hP hS hl
    · have hE := iq c_11 hE
      refine lv_iload hx hb dX2_summedUp_166 (lv_at hl 6 rfl) ?_
      refine lv_iconst (v := 2) hx hb dX2_summedUp_168 (by decide) ?_
      refine lv_icmp_ne (tgt := 216) hx hb dX2_summedUp_169 (by decide) (fun c_17 => ?_) (fun c_17 => ?_)
      · have hE := iq c_17 hE
        refine lv_iload hx hb dX2_summedUp_216 (lv_at hl 6 rfl) ?_
        refine lv_bipush (v := 10) hx hb dX2_summedUp_218 (by decide) ?_
        refine lv_icmp_ge (tgt := 287) hx hb dX2_summedUp_220 (by decide) (fun c_18 => ?_) (fun c_18 => ?_)
        · have hE := ip c_18 hE
          refine lv_iload hx hb dX2_summedUp_287 (lv_at hl 6 rfl) ?_
          refine lv_bipush (v := 20) hx hb dX2_summedUp_289 (by decide) ?_
          refine lv_icmp_ge (tgt := 331) hx hb dX2_summedUp_291 (by decide) (fun c_19 => ?_) (fun c_19 => ?_)
          · have hE := ip c_19 hE
            refine lv_iload hx hb dX2_summedUp_331 (lv_at hl 6 rfl) ?_
            refine lv_bipush (v := 20) hx hb dX2_summedUp_333 (by decide) ?_
            refine lv_icmp_ne (tgt := 367) hx hb dX2_summedUp_335 (by decide) (fun c_20 => ?_) (fun c_20 => ?_)
            · have hE := iq c_20 hE
              refine lv_iinc (v := (x6 + (-1 : Int32))) (lv' := [(6, .int (x6 + (-1 : Int32))), (0, .ref (E.2.2.2.1 0)), (3, .int v3), (4, .int v4), (5, .int x5), (7, .int x7), (8, .int x8)]) hx hb dX2_summedUp_367 hl (k := 4) rfl rfl (Nat.le_of_ble_eq_true rfl) rfl (fun ls hl => ?_)
              refine lv_aload_n hx hb dX2_summedUp_370 rfl (lv_at hl 1 rfl) ?_
              refine gM_39 hC hP dX2_summedUp_371 ?_
              refine lv_iload hx hb dX2_summedUp_374 (lv_at hl 0 rfl) ?_
              refine lv_iconst (v := 1) hx hb dX2_summedUp_376 (by decide) ?_
              refine lv_isub hx hb dX2_summedUp_377 ?_
              refine lv_iload hx hb dX2_summedUp_378 (lv_at hl 6 rfl) ?_
              refine lv_aload_n hx hb dX2_summedUp_380 rfl (lv_at hl 1 rfl) ?_
              refine gM_39 hC hP dX2_summedUp_381 ?_
              refine lv_iload hx hb dX2_summedUp_384 (lv_at hl 0 rfl) ?_
              refine lv_iconst (v := 1) hx hb dX2_summedUp_386 (by decide) ?_
              refine lv_isub hx hb dX2_summedUp_387 ?_
              obtain ⟨c_21, hE⟩ := og hE
              refine aM_22 hC hP c_21 dX2_summedUp_388 ?_
              refine lv_aload_n hx hb dX2_summedUp_389 rfl (lv_at hl 1 rfl) ?_
              refine gM_39 hC hP dX2_summedUp_390 ?_
              refine lv_iload hx hb dX2_summedUp_393 (lv_at hl 0 rfl) ?_
              obtain ⟨c_22, hE⟩ := og hE
              refine aM_22 hC hP c_22 dX2_summedUp_395 ?_
              obtain ⟨r_23, h_23, hE⟩ := ob hE
              refine s_calli [.int x8, .int (z.2.2.1 22 ((x6 + (-1 : Int32)) - (1 : Int32)).toNatClampNeg), .int (z.2.2.1 22 (x6 + (-1 : Int32)).toNatClampNeg)] hC.sC hl.1 (wX2_joined x8 (z.2.2.1 22 ((x6 + (-1 : Int32)) - (1 : Int32)).toNatClampNeg) (z.2.2.1 22 (x6 + (-1 : Int32)).toNatClampNeg) r_23 h_23) (va_cwS 3 hts lkX2_274 rfl rfl rfl cdX2_joined ⟨Nat.le_of_ble_eq_true rfl, Nat.le_of_ble_eq_true rfl⟩) rfl rfl (lv_room (Nat.le_of_ble_eq_true rfl)) ⟨Nat.zero_le _, Nat.zero_le _⟩ dX2_summedUp_396 ?_
              obtain ⟨c_24, hE⟩ := og hE
              obtain ⟨z_24, ez_24, hE⟩ := on hE
              refine tM_22 hC hP hS c_24 ez_24 dX2_summedUp_399 (fun H locs hP hS => ?_)
              refine lv_iinc (v := (x7 + (1 : Int32))) (lv' := [(7, .int (x7 + (1 : Int32))), (6, .int (x6 + (-1 : Int32))), (0, .ref (E.2.2.2.1 0)), (3, .int v3), (4, .int v4), (5, .int x5), (8, .int x8)]) hx hb dX2_summedUp_400 hl (k := 5) rfl rfl (Nat.le_of_ble_eq_true rfl) rfl (fun ls hl => ?_)
              refine lv_goto (tgt := 38) hx hb dX2_summedUp_403 (by decide) ?_
              exact hc _ (Option.some.inj hE).symm H locs ls hP hS (lv_sub hl [2, 3, 4, 5, 1, 0] rfl)
            · have hE := ip c_20 hE
              refine lv_aload_n hx hb dX2_summedUp_338 rfl (lv_at hl 0 rfl) ?_
              refine gM_39 hC hP dX2_summedUp_339 ?_
              refine lv_iload hx hb dX2_summedUp_342 (lv_at hl 4 rfl) ?_
              refine lv_iconst (v := 1) hx hb dX2_summedUp_344 (by decide) ?_
              refine lv_isub hx hb dX2_summedUp_345 ?_
              refine lv_aload_n hx hb dX2_summedUp_346 rfl (lv_at hl 0 rfl) ?_
              refine gM_39 hC hP dX2_summedUp_347 ?_
              refine lv_iload hx hb dX2_summedUp_350 (lv_at hl 4 rfl) ?_
              refine lv_iconst (v := 1) hx hb dX2_summedUp_352 (by decide) ?_
              refine lv_isub hx hb dX2_summedUp_353 ?_
              obtain ⟨c_25, hE⟩ := og hE
              refine aM_22 hC hP c_25 dX2_summedUp_354 ?_
              refine lv_if_ne (tgt := 362) hx hb dX2_summedUp_355 (by decide) (fun c_26 => ?_) (fun c_26 => ?_)
              · have hE := iq c_26 hE
                refine lv_iconst (v := 0) hx hb dX2_summedUp_362 (by decide) ?_
                exact wX2_summedUp_J363 k z v3 v4 x5 x6 x7 (0 : Int32) (x6 - (1 : Int32)) hC y hE hc hx1 H locs ls hP hS (lv_sub hl [0, 1, 2, 3, 4, 5] rfl)
              · have hE := ip c_26 hE
                refine lv_iconst (v := 1) hx hb dX2_summedUp_358 (by decide) ?_
                refine lv_goto (tgt := 363) hx hb dX2_summedUp_359 (by decide) ?_
                exact wX2_summedUp_J363 k z v3 v4 x5 x6 x7 (1 : Int32) (x6 - (1 : Int32)) hC y hE hc hx1 H locs ls hP hS (lv_sub hl [0, 1, 2, 3, 4, 5] rfl)
          · have hE := iq c_19 hE
            refine lv_iinc (v := (x5 + (-2 : Int32))) (lv' := [(5, .int (x5 + (-2 : Int32))), (0, .ref (E.2.2.2.1 0)), (3, .int v3), (4, .int v4), (6, .int x6), (7, .int x7), (8, .int x8)]) hx hb dX2_summedUp_294 hl (k := 3) rfl rfl (Nat.le_of_ble_eq_true rfl) rfl (fun ls hl => ?_)
            refine lv_aload_n hx hb dX2_summedUp_297 rfl (lv_at hl 1 rfl) ?_
            refine gM_39 hC hP dX2_summedUp_298 ?_
            refine lv_iload hx hb dX2_summedUp_301 (lv_at hl 4 rfl) ?_
            refine lv_iload hx hb dX2_summedUp_303 (lv_at hl 6 rfl) ?_
            refine lv_aload_n hx hb dX2_summedUp_305 rfl (lv_at hl 1 rfl) ?_
            refine gM_35 hC hP dX2_summedUp_306 ?_
            refine lv_iload hx hb dX2_summedUp_309 (lv_at hl 0 rfl) ?_
            obtain ⟨c_28, hE⟩ := og hE
            refine aM_21 hC hP c_28 dX2_summedUp_311 ?_
            refine lv_aload_n hx hb dX2_summedUp_312 rfl (lv_at hl 1 rfl) ?_
            refine gM_35 hC hP dX2_summedUp_313 ?_
            refine lv_iload hx hb dX2_summedUp_316 (lv_at hl 0 rfl) ?_
            refine lv_iconst (v := 1) hx hb dX2_summedUp_318 (by decide) ?_
            refine lv_iadd hx hb dX2_summedUp_319 ?_
            obtain ⟨c_29, hE⟩ := og hE
            refine aM_21 hC hP c_29 dX2_summedUp_320 ?_
            obtain ⟨r_30, h_30, hE⟩ := ob hE
            refine s_calli [.int x8, .long (z.2.2.2 21 (x5 + (-2 : Int32)).toNatClampNeg), .long (z.2.2.2 21 ((x5 + (-2 : Int32)) + (1 : Int32)).toNatClampNeg)] hC.sC hl.1 (wX2_isAsked x8 (z.2.2.2 21 (x5 + (-2 : Int32)).toNatClampNeg) (z.2.2.2 21 ((x5 + (-2 : Int32)) + (1 : Int32)).toNatClampNeg) r_30 h_30) (va_cwS 3 hts lkX2_270 rfl rfl rfl cdX2_isAsked ⟨Nat.le_of_ble_eq_true rfl, Nat.le_of_ble_eq_true rfl⟩) rfl rfl (lv_room (Nat.le_of_ble_eq_true rfl)) ⟨Nat.zero_le _, Nat.zero_le _⟩ dX2_summedUp_321 ?_
            obtain ⟨c_31, hE⟩ := og hE
            obtain ⟨z_31, ez_31, hE⟩ := on hE
            refine tM_22 hC hP hS c_31 ez_31 dX2_summedUp_324 (fun H locs hP hS => ?_)
            refine lv_iinc (v := (x6 + (1 : Int32))) (lv' := [(6, .int (x6 + (1 : Int32))), (5, .int (x5 + (-2 : Int32))), (0, .ref (E.2.2.2.1 0)), (3, .int v3), (4, .int v4), (7, .int x7), (8, .int x8)]) hx hb dX2_summedUp_325 hl (k := 4) rfl rfl (Nat.le_of_ble_eq_true rfl) rfl (fun ls hl => ?_)
            refine lv_goto (tgt := 400) hx hb dX2_summedUp_328 (by decide) ?_
            refine lv_iinc (v := (x7 + (1 : Int32))) (lv' := [(7, .int (x7 + (1 : Int32))), (6, .int (x6 + (1 : Int32))), (5, .int (x5 + (-2 : Int32))), (0, .ref (E.2.2.2.1 0)), (3, .int v3), (4, .int v4), (8, .int x8)]) hx hb dX2_summedUp_400 hl (k := 5) rfl rfl (Nat.le_of_ble_eq_true rfl) rfl (fun ls hl => ?_)
            refine lv_goto (tgt := 38) hx hb dX2_summedUp_403 (by decide) ?_
            exact hc _ (Option.some.inj hE).symm H locs ls hP hS (lv_sub hl [3, 4, 5, 2, 1, 0] rfl)
        · have hE := iq c_18 hE
          refine lv_iinc (v := (x5 + (-1 : Int32))) (lv' := [(5, .int (x5 + (-1 : Int32))), (0, .ref (E.2.2.2.1 0)), (3, .int v3), (4, .int v4), (6, .int x6), (7, .int x7), (8, .int x8)]) hx hb dX2_summedUp_223 hl (k := 3) rfl rfl (Nat.le_of_ble_eq_true rfl) rfl (fun ls hl => ?_)
          refine lv_aload_n hx hb dX2_summedUp_226 rfl (lv_at hl 1 rfl) ?_
          refine gM_35 hC hP dX2_summedUp_227 ?_
          refine lv_iload hx hb dX2_summedUp_230 (lv_at hl 0 rfl) ?_
          refine lv_iconst (v := 1) hx hb dX2_summedUp_232 (by decide) ?_
          refine lv_isub hx hb dX2_summedUp_233 ?_
          refine lv_iload hx hb dX2_summedUp_234 (lv_at hl 6 rfl) ?_
          refine lv_iconst (v := 4) hx hb dX2_summedUp_236 (by decide) ?_
          refine lv_icmp_ne (tgt := 262) hx hb dX2_summedUp_237 (by decide) (fun c_32 => ?_) (fun c_32 => ?_)
          · have hE := iq c_32 hE
            refine lv_iload hx hb dX2_summedUp_262 (lv_at hl 6 rfl) ?_
            refine lv_aload_n hx hb dX2_summedUp_264 rfl (lv_at hl 1 rfl) ?_
            refine gM_35 hC hP dX2_summedUp_265 ?_
            refine lv_iload hx hb dX2_summedUp_268 (lv_at hl 0 rfl) ?_
            refine lv_iconst (v := 1) hx hb dX2_summedUp_270 (by decide) ?_
            refine lv_isub hx hb dX2_summedUp_271 ?_
            obtain ⟨c_33, hE⟩ := og hE
            refine aM_21 hC hP c_33 dX2_summedUp_272 ?_
            refine lv_aload_n hx hb dX2_summedUp_273 rfl (lv_at hl 1 rfl) ?_
            refine gM_35 hC hP dX2_summedUp_274 ?_
            refine lv_iload hx hb dX2_summedUp_277 (lv_at hl 0 rfl) ?_
            obtain ⟨c_34, hE⟩ := og hE
            refine aM_21 hC hP c_34 dX2_summedUp_279 ?_
            obtain ⟨r_35, h_35, hE⟩ := ob hE
            refine s_calll [.int x8, .long (z.2.2.2 21 ((x5 + (-1 : Int32)) - (1 : Int32)).toNatClampNeg), .long (z.2.2.2 21 (x5 + (-1 : Int32)).toNatClampNeg)] hC.sC hl.1 (wX2_two x8 (z.2.2.2 21 ((x5 + (-1 : Int32)) - (1 : Int32)).toNatClampNeg) (z.2.2.2 21 (x5 + (-1 : Int32)).toNatClampNeg) r_35 h_35) (va_cwS 3 hts lkX2_266 rfl rfl rfl cdX2_two ⟨Nat.le_of_ble_eq_true rfl, Nat.le_of_ble_eq_true rfl⟩) rfl rfl (lv_room (Nat.le_of_ble_eq_true rfl)) ⟨Nat.zero_le _, Nat.zero_le _⟩ dX2_summedUp_280 ?_
            exact wX2_summedUp_J283 k z v3 v4 (x5 + (-1 : Int32)) x6 x7 r_35 ((x5 + (-1 : Int32)) - (1 : Int32)) hC y hE hc hx1 H locs ls hP hS (lv_sub hl [1, 2, 3, 0, 4, 5] rfl)
          · have hE := ip c_32 hE
            refine lv_aload_n hx hb dX2_summedUp_240 rfl (lv_at hl 1 rfl) ?_
            refine gM_35 hC hP dX2_summedUp_241 ?_
            refine lv_iload hx hb dX2_summedUp_244 (lv_at hl 0 rfl) ?_
            refine lv_iconst (v := 1) hx hb dX2_summedUp_246 (by decide) ?_
            refine lv_isub hx hb dX2_summedUp_247 ?_
            obtain ⟨c_37, hE⟩ := og hE
            refine aM_21 hC hP c_37 dX2_summedUp_248 ?_
            refine lv_aload_n hx hb dX2_summedUp_249 rfl (lv_at hl 1 rfl) ?_
            refine gM_35 hC hP dX2_summedUp_250 ?_
            refine lv_iload hx hb dX2_summedUp_253 (lv_at hl 0 rfl) ?_
            obtain ⟨c_38, hE⟩ := og hE
            refine aM_21 hC hP c_38 dX2_summedUp_255 ?_
            obtain ⟨r_39, h_39, hE⟩ := ob hE
            refine s_calll [.long (z.2.2.2 21 ((x5 + (-1 : Int32)) - (1 : Int32)).toNatClampNeg), .long (z.2.2.2 21 (x5 + (-1 : Int32)).toNatClampNeg)] hC.sC hl.1 (wX2_roundOf (z.2.2.2 21 ((x5 + (-1 : Int32)) - (1 : Int32)).toNatClampNeg) (z.2.2.2 21 (x5 + (-1 : Int32)).toNatClampNeg) r_39 h_39) (va_cwS 2 hts lkX2_262 rfl rfl rfl cdX2_roundOf ⟨Nat.le_of_ble_eq_true rfl, Nat.le_of_ble_eq_true rfl⟩) rfl rfl (lv_room (Nat.le_of_ble_eq_true rfl)) ⟨Nat.zero_le _, Nat.zero_le _⟩ dX2_summedUp_256 ?_
            refine lv_goto (tgt := 283) hx hb dX2_summedUp_259 (by decide) ?_
            exact wX2_summedUp_J283 k z v3 v4 (x5 + (-1 : Int32)) x6 x7 r_39 ((x5 + (-1 : Int32)) - (1 : Int32)) hC y hE hc hx1 H locs ls hP hS (lv_sub hl [1, 2, 3, 0, 4, 5] rfl)
      · have hE := ip c_17 hE
        exact wX2_summedUp_J172 k z v3 v4 x5 x6 x7 x8 hC y hE hc hx1 H locs ls hP hS hl
  · have hE := ip c_10 hE
    refine lv_iinc (v := (x5 + (-1 : Int32))) (lv' := [(5, .int (x5 + (-1 : Int32))), (0, .ref (E.2.2.2.1 0)), (3, .int v3), (4, .int v4), (6, .int x6), (7, .int x7), (8, .int x8)]) hx hb dX2_summedUp_125 hl (k := 3) rfl rfl (Nat.le_of_ble_eq_true rfl) rfl (fun ls hl => ?_)
    refine lv_iinc (v := (x6 + (-1 : Int32))) (lv' := [(6, .int (x6 + (-1 : Int32))), (5, .int (x5 + (-1 : Int32))), (0, .ref (E.2.2.2.1 0)), (3, .int v3), (4, .int v4), (7, .int x7), (8, .int x8)]) hx hb dX2_summedUp_128 hl (k := 4) rfl rfl (Nat.le_of_ble_eq_true rfl) rfl (fun ls hl => ?_)
    refine lv_aload_n hx hb dX2_summedUp_131 rfl (lv_at hl 2 rfl) ?_
    refine gM_39 hC hP dX2_summedUp_132 ?_
    refine lv_iload hx hb dX2_summedUp_135 (lv_at hl 0 rfl) ?_
    obtain ⟨c_40, hE⟩ := og hE
    refine aM_22 hC hP c_40 dX2_summedUp_137 ?_
    refine lv_if_ne (tgt := 400) hx hb dX2_summedUp_138 (by decide) (fun c_41 => ?_) (fun c_41 => ?_)
    · have hE := iq c_41 hE
      refine lv_iinc (v := (x7 + (1 : Int32))) (lv' := [(7, .int (x7 + (1 : Int32))), (6, .int (x6 + (-1 : Int32))), (5, .int (x5 + (-1 : Int32))), (0, .ref (E.2.2.2.1 0)), (3, .int v3), (4, .int v4), (8, .int x8)]) hx hb dX2_summedUp_400 hl (k := 5) rfl rfl (Nat.le_of_ble_eq_true rfl) rfl (fun ls hl => ?_)
      refine lv_goto (tgt := 38) hx hb dX2_summedUp_403 (by decide) ?_
      exact hc _ (Option.some.inj hE).symm H locs ls hP hS (lv_sub hl [3, 4, 5, 2, 1, 0] rfl)
    · have hE := ip c_41 hE
      refine lv_aload_n hx hb dX2_summedUp_141 rfl (lv_at hl 2 rfl) ?_
      refine gM_35 hC hP dX2_summedUp_142 ?_
      refine lv_iload hx hb dX2_summedUp_145 (lv_at hl 1 rfl) ?_
      refine lv_iconst (v := 1) hx hb dX2_summedUp_147 (by decide) ?_
      refine lv_isub hx hb dX2_summedUp_148 ?_
      refine lv_aload_n hx hb dX2_summedUp_149 rfl (lv_at hl 2 rfl) ?_
      refine gM_35 hC hP dX2_summedUp_150 ?_
      refine lv_iload hx hb dX2_summedUp_153 (lv_at hl 1 rfl) ?_
      obtain ⟨c_42, hE⟩ := og hE
      refine aM_21 hC hP c_42 dX2_summedUp_155 ?_
      obtain ⟨c_43, hE⟩ := og hE
      obtain ⟨z_43, ez_43, hE⟩ := on hE
      refine tM_21 hC hP hS c_43 ez_43 dX2_summedUp_156 (fun H locs hP hS => ?_)
      refine lv_goto (tgt := 400) hx hb dX2_summedUp_157 (by decide) ?_
      refine lv_iinc (v := (x7 + (1 : Int32))) (lv' := [(7, .int (x7 + (1 : Int32))), (6, .int (x6 + (-1 : Int32))), (5, .int (x5 + (-1 : Int32))), (0, .ref (E.2.2.2.1 0)), (3, .int v3), (4, .int v4), (8, .int x8)]) hx hb dX2_summedUp_400 hl (k := 5) rfl rfl (Nat.le_of_ble_eq_true rfl) rfl (fun ls hl => ?_)
      refine lv_goto (tgt := 38) hx hb dX2_summedUp_403 (by decide) ?_
      exact hc _ (Option.some.inj hE).symm H locs ls hP hS (lv_sub hl [3, 4, 5, 2, 1, 0] rfl)
def fX2_summedUp_J112 (k : Nat) (z : MS) (v3 : Int32) (v4 : Int32) (x5 : Int32) (x6 : Int32) (x7 : Int32) (t0 : Int64) (t1 : Int32) : Option ((Int32 × Int32 × Int32 × MS) ⊕ MS) := if ib t1 330 then none else (nm (mL z 21 (vp_updL (z.2.2.2 21) t1.toNatClampNeg t0)) fun z_46 => some (.inl ((x5 + (1 : Int32)), x6, (x7 + (1 : Int32)), z_46)))
set_option maxHeartbeats 1000000 in
theorem wX2_summedUp_J112 {p : Program} {l : Launch} {e : Env} {s : State} {m : MethodId} {args : Array Value} {below : List Frame} {meth : Method} {c : Code} {E : ME} {Q : State → Prop} (k : Nat) (z : MS) (v3 : Int32) (v4 : Int32) (x5 : Int32) (x6 : Int32) (x7 : Int32) (t0 : Int64) (t1 : Int32) (hC : mC E cX2_summedUp 10 (some .long) p s m args meth c) (y : (Int32 × Int32 × Int32 × MS) ⊕ MS) (hE : fX2_summedUp_J112 k z v3 v4 x5 x6 x7 t0 t1 = some y) (hc : ∀ a : Int32 × Int32 × Int32 × MS, y = .inl a → mW p l e rmX2_summedUp s m args below meth c E 10 Q 38 [(0, .ref (E.2.2.2.1 0)), (3, .int v3), (4, .int v4), (5, .int a.1), (6, .int a.2.1), (7, .int a.2.2.1)] [] a.2.2.2) (hx1 : ∀ b : MS, y = .inr b → mW p l e rmX2_summedUp s m args below meth c E 10 Q 406 [(0, .ref (E.2.2.2.1 0))] [] b) : mW p l e rmX2_summedUp s m args below meth c E 10 Q 112 [(0, .ref (E.2.2.2.1 0)), (3, .int v3), (4, .int v4), (5, .int x5), (6, .int x6), (7, .int x7)] [.long t0, .int t1, .ref (E.2.2.2.1 7)] z := by
  intro H locs ls hP hS hl
  have hx := hC.1
  have hb := hC.2.1
  have hown := hC.2.2.2.2.2.1
  have hts := hC.2.2.2.2.2.2.1
  unfold fX2_summedUp_J112 at hE
  obtain ⟨c_46, hE⟩ := og hE
  obtain ⟨z_46, ez_46, hE⟩ := on hE
  refine tM_21 hC hP hS c_46 ez_46 dX2_summedUp_112 (fun H locs hP hS => ?_)
  refine lv_iinc (v := (x5 + (1 : Int32))) (lv' := [(5, .int (x5 + (1 : Int32))), (0, .ref (E.2.2.2.1 0)), (3, .int v3), (4, .int v4), (6, .int x6), (7, .int x7)]) hx hb dX2_summedUp_113 hl (k := 3) rfl rfl (Nat.le_of_ble_eq_true rfl) rfl (fun ls hl => ?_)
  refine lv_goto (tgt := 400) hx hb dX2_summedUp_116 (by decide) ?_
  refine lv_iinc (v := (x7 + (1 : Int32))) (lv' := [(7, .int (x7 + (1 : Int32))), (5, .int (x5 + (1 : Int32))), (0, .ref (E.2.2.2.1 0)), (3, .int v3), (4, .int v4), (6, .int x6)]) hx hb dX2_summedUp_400 hl (k := 5) rfl rfl (Nat.le_of_ble_eq_true rfl) rfl (fun ls hl => ?_)
  refine lv_goto (tgt := 38) hx hb dX2_summedUp_403 (by decide) ?_
  exact hc _ (Option.some.inj hE).symm H locs ls hP hS (lv_sub hl [2, 3, 4, 1, 5, 0] rfl)
def fX2_summedUp_J87 (k : Nat) (z : MS) (v3 : Int32) (v4 : Int32) (x5 : Int32) (x6 : Int32) (x7 : Int32) (x8 : Int32) (x9 : Int32) : Option ((Int32 × Int32 × Int32 × MS) ⊕ MS) := if x8 = 0 then ((fX2_summedUp_J112 k z v3 v4 x5 x6 x7 x9.toInt64 x5)) else (if ib x9 8 then none else ((fX2_summedUp_J112 k z v3 v4 x5 x6 x7 (z.2.2.1 20 x9.toNatClampNeg).toInt64 x5)))
set_option maxHeartbeats 1000000 in
theorem wX2_summedUp_J87 {p : Program} {l : Launch} {e : Env} {s : State} {m : MethodId} {args : Array Value} {below : List Frame} {meth : Method} {c : Code} {E : ME} {Q : State → Prop} (k : Nat) (z : MS) (v3 : Int32) (v4 : Int32) (x5 : Int32) (x6 : Int32) (x7 : Int32) (x8 : Int32) (x9 : Int32) (hC : mC E cX2_summedUp 10 (some .long) p s m args meth c) (y : (Int32 × Int32 × Int32 × MS) ⊕ MS) (hE : fX2_summedUp_J87 k z v3 v4 x5 x6 x7 x8 x9 = some y) (hc : ∀ a : Int32 × Int32 × Int32 × MS, y = .inl a → mW p l e rmX2_summedUp s m args below meth c E 10 Q 38 [(0, .ref (E.2.2.2.1 0)), (3, .int v3), (4, .int v4), (5, .int a.1), (6, .int a.2.1), (7, .int a.2.2.1)] [] a.2.2.2) (hx1 : ∀ b : MS, y = .inr b → mW p l e rmX2_summedUp s m args below meth c E 10 Q 406 [(0, .ref (E.2.2.2.1 0))] [] b) : mW p l e rmX2_summedUp s m args below meth c E 10 Q 87 [(0, .ref (E.2.2.2.1 0)), (3, .int v3), (4, .int v4), (5, .int x5), (6, .int x6), (7, .int x7), (8, .int x8), (9, .int x9)] [] z := by
  intro H locs ls hP hS hl
  have hx := hC.1
  have hb := hC.2.1
  have hown := hC.2.2.2.2.2.1
  have hts := hC.2.2.2.2.2.2.1
  unfold fX2_summedUp_J87 at hE
  refine lv_aload_n hx hb dX2_summedUp_87 rfl (lv_at hl 0 rfl) ?_
  refine gM_35 hC hP dX2_summedUp_88 ?_
  refine lv_iload hx hb dX2_summedUp_91 (lv_at hl 3 rfl) ?_
  refine lv_iload hx hb dX2_summedUp_93 (lv_at hl 6 rfl) ?_
  refine lv_if_ne (tgt := 104) hx hb dX2_summedUp_95 (by decide) (fun c_44 => ?_) (fun c_44 => ?_)
  · have hE := iq c_44 hE
    refine lv_aload_n hx hb dX2_summedUp_104 rfl (lv_at hl 0 rfl) ?_
    refine gM_32 hC hP dX2_summedUp_105 ?_
    refine lv_iload hx hb dX2_summedUp_108 (lv_at hl 7 rfl) ?_
    obtain ⟨c_45, hE⟩ := og hE
    refine aM_20 hC hP c_45 dX2_summedUp_110 ?_
    refine lv_i2l hx hb dX2_summedUp_111 rfl ?_
    exact wX2_summedUp_J112 k z v3 v4 x5 x6 x7 (z.2.2.1 20 x9.toNatClampNeg).toInt64 x5 hC y hE hc hx1 H locs ls hP hS (lv_sub hl [0, 1, 2, 3, 4, 5] rfl)
  · have hE := ip c_44 hE
    refine lv_iload hx hb dX2_summedUp_98 (lv_at hl 7 rfl) ?_
    refine lv_i2l hx hb dX2_summedUp_100 rfl ?_
    refine lv_goto (tgt := 112) hx hb dX2_summedUp_101 (by decide) ?_
    exact wX2_summedUp_J112 k z v3 v4 x5 x6 x7 x9.toInt64 x5 hC y hE hc hx1 H locs ls hP hS (lv_sub hl [0, 1, 2, 3, 4, 5] rfl)
def fX2_summedUp_B38 (k : Nat) (v3 : Int32) (v4 : Int32) (a : Int32 × Int32 × Int32 × MS) : Option ((Int32 × Int32 × Int32 × MS) ⊕ MS) := if ib (v3 + (2 : Int32)) 2724 then none else (if (a.2.2.2.2.2.1 2 (v3 + (2 : Int32)).toNatClampNeg) ≤ a.2.2.1 then (some (.inr a.2.2.2)) else (if ib (v4 + ((2 : Int32) * a.2.2.1)) 2724 then none else (nm (a.2.2.2.2.2.1 2 (v4 + ((2 : Int32) * a.2.2.1)).toNatClampNeg) fun v_6 => if ib ((v4 + ((2 : Int32) * a.2.2.1)) + (1 : Int32)) 2724 then none else (nm (a.2.2.2.2.2.1 2 ((v4 + ((2 : Int32) * a.2.2.1)) + (1 : Int32)).toNatClampNeg) fun v_8 => if (1 : Int32) < v_6 then ((fX2_summedUp_J119 k a.2.2.2 v3 v4 a.1 a.2.1 a.2.2.1 v_6)) else ((fX2_summedUp_J87 k a.2.2.2 v3 v4 a.1 a.2.1 a.2.2.1 v_6 v_8))))))
set_option maxHeartbeats 1000000 in
theorem wX2_summedUp_B38 {p : Program} {l : Launch} {e : Env} {s : State} {m : MethodId} {args : Array Value} {below : List Frame} {meth : Method} {c : Code} {E : ME} {Q : State → Prop} (k : Nat) (v3 : Int32) (v4 : Int32) (hC : mC E cX2_summedUp 10 (some .long) p s m args meth c) (a : Int32 × Int32 × Int32 × MS) (y : (Int32 × Int32 × Int32 × MS) ⊕ MS) (hE : fX2_summedUp_B38 k v3 v4 a = some y) (hc : ∀ a : Int32 × Int32 × Int32 × MS, y = .inl a → mW p l e rmX2_summedUp s m args below meth c E 10 Q 38 [(0, .ref (E.2.2.2.1 0)), (3, .int v3), (4, .int v4), (5, .int a.1), (6, .int a.2.1), (7, .int a.2.2.1)] [] a.2.2.2) (hx1 : ∀ b : MS, y = .inr b → mW p l e rmX2_summedUp s m args below meth c E 10 Q 406 [(0, .ref (E.2.2.2.1 0))] [] b) : mW p l e rmX2_summedUp s m args below meth c E 10 Q 38 [(0, .ref (E.2.2.2.1 0)), (3, .int v3), (4, .int v4), (5, .int a.1), (6, .int a.2.1), (7, .int a.2.2.1)] [] a.2.2.2 := by
  intro H locs ls hP hS hl
  have hx := hC.1
  have hb := hC.2.1
  have hown := hC.2.2.2.2.2.1
  have hts := hC.2.2.2.2.2.2.1
  unfold fX2_summedUp_B38 at hE
  refine lv_iload hx hb dX2_summedUp_38 (lv_at hl 5 rfl) ?_
  refine lv_aload_n hx hb dX2_summedUp_40 rfl (lv_at hl 0 rfl) ?_
  refine gM_16 hC hP dX2_summedUp_41 ?_
  refine lv_iload_n hx hb dX2_summedUp_44 rfl (lv_at hl 1 rfl) ?_
  refine lv_iconst (v := 2) hx hb dX2_summedUp_45 (by decide) ?_
  refine lv_iadd hx hb dX2_summedUp_46 ?_
  obtain ⟨c_3, hE⟩ := og hE
  refine aM_2 hC hP c_3 dX2_summedUp_47 ?_
  refine lv_icmp_ge (tgt := 406) hx hb dX2_summedUp_48 (by decide) (fun c_4 => ?_) (fun c_4 => ?_)
  · have hE := ip c_4 hE
    exact hx1 _ (Option.some.inj hE).symm H locs ls hP hS (lv_sub hl [0] rfl)
  · have hE := iq c_4 hE
    refine lv_aload_n hx hb dX2_summedUp_51 rfl (lv_at hl 0 rfl) ?_
    refine gM_16 hC hP dX2_summedUp_52 ?_
    refine lv_iload hx hb dX2_summedUp_55 (lv_at hl 2 rfl) ?_
    refine lv_iconst (v := 2) hx hb dX2_summedUp_57 (by decide) ?_
    refine lv_iload hx hb dX2_summedUp_58 (lv_at hl 5 rfl) ?_
    refine lv_imul hx hb dX2_summedUp_60 ?_
    refine lv_iadd hx hb dX2_summedUp_61 ?_
    obtain ⟨c_5, hE⟩ := og hE
    refine aM_2 hC hP c_5 dX2_summedUp_62 ?_
    refine nm_i hE (fun v_6 ev_6 hE => ?_)
    refine lv_istore (lv' := [(8, .int v_6), (0, .ref (E.2.2.2.1 0)), (3, .int v3), (4, .int v4), (5, .int a.1), (6, .int a.2.1), (7, .int a.2.2.1)]) hx hb dX2_summedUp_63 hl (Nat.le_of_ble_eq_true rfl) rfl (fun ls hl => ?_)
    refine lv_aload_n hx hb dX2_summedUp_65 rfl (lv_at hl 1 rfl) ?_
    refine gM_16 hC hP dX2_summedUp_66 ?_
    refine lv_iload hx hb dX2_summedUp_69 (lv_at hl 3 rfl) ?_
    refine lv_iconst (v := 2) hx hb dX2_summedUp_71 (by decide) ?_
    refine lv_iload hx hb dX2_summedUp_72 (lv_at hl 6 rfl) ?_
    refine lv_imul hx hb dX2_summedUp_74 ?_
    refine lv_iadd hx hb dX2_summedUp_75 ?_
    refine lv_iconst (v := 1) hx hb dX2_summedUp_76 (by decide) ?_
    refine lv_iadd hx hb dX2_summedUp_77 ?_
    obtain ⟨c_7, hE⟩ := og hE
    refine aM_2 hC hP c_7 dX2_summedUp_78 ?_
    refine nm_i hE (fun v_8 ev_8 hE => ?_)
    refine lv_istore (lv' := [(9, .int v_8), (8, .int v_6), (0, .ref (E.2.2.2.1 0)), (3, .int v3), (4, .int v4), (5, .int a.1), (6, .int a.2.1), (7, .int a.2.2.1)]) hx hb dX2_summedUp_79 hl (Nat.le_of_ble_eq_true rfl) rfl (fun ls hl => ?_)
    refine lv_iload hx hb dX2_summedUp_81 (lv_at hl 1 rfl) ?_
    refine lv_iconst (v := 1) hx hb dX2_summedUp_83 (by decide) ?_
    refine lv_icmp_gt (tgt := 119) hx hb dX2_summedUp_84 (by decide) (fun c_9 => ?_) (fun c_9 => ?_)
    · have hE := ip c_9 hE
      exact wX2_summedUp_J119 k a.2.2.2 v3 v4 a.1 a.2.1 a.2.2.1 v_6 hC y hE hc hx1 H locs ls hP hS (lv_sub hl [2, 3, 4, 5, 6, 7, 1] rfl)
    · have hE := iq c_9 hE
      exact wX2_summedUp_J87 k a.2.2.2 v3 v4 a.1 a.2.1 a.2.2.1 v_6 v_8 hC y hE hc hx1 H locs ls hP hS (lv_sub hl [2, 3, 4, 5, 6, 7, 1, 0] rfl)
def fX2_summedUp (k : Nat) (z : MS) (x1 : Int32) (x2 : Int32) : Option (Int64 × MS) := if ib (((((681 : Int32) * x1) + (1 : Int32)) + ((3 : Int32) * x2)) + (1 : Int32)) 2724 then none else (nm (z.2.2.1 2 (((((681 : Int32) * x1) + (1 : Int32)) + ((3 : Int32) * x2)) + (1 : Int32)).toNatClampNeg) fun v_2 => (lpo (fX2_summedUp_B38 k ((((681 : Int32) * x1) + (1 : Int32)) + ((3 : Int32) * x2)) (((681 : Int32) * x1) + (73 : Int32))) k ((0 : Int32), (0 : Int32), v_2, z)).bind fun x_47 => some ((x_47.2.2.2 21 (0 : Int32).toNatClampNeg), x_47))
set_option maxHeartbeats 1000000 in
theorem wX2_summedUp {l : Launch} {E : ME} (k : Nat) (z : MS) (x1 : Int32) (x2 : Int32) (y : Int64 × MS) (hE : fX2_summedUp k z x1 x2 = some y) : mM l yX2_summedUp (ws_ yX2_summedUp cX2_summedUp 10 (some .long)) rmX2_summedUp E z [.int x1, .int x2] (some (.long y.1)) y.2 := by
  refine m_met (by decide) rfl (Nat.le_of_ble_eq_true rfl) (fun p e s m args below meth c hC => ?_)
  intro H locs ls hP hS hl
  have hx := hC.1
  have hb := hC.2.1
  have hown := hC.2.2.2.2.2.1
  have hts := hC.2.2.2.2.2.2.1
  have hl : lv_has ls 10 [(0, .ref (E.2.2.2.1 0)), (1, .int x1), (2, .int x2)] := hl
  unfold fX2_summedUp at hE
  refine lv_sipush (v := 681) hx hb dX2_summedUp_0 (by decide) ?_
  refine lv_iload_n hx hb dX2_summedUp_3 rfl (lv_at hl 1 rfl) ?_
  refine lv_imul hx hb dX2_summedUp_4 ?_
  refine lv_iconst (v := 1) hx hb dX2_summedUp_5 (by decide) ?_
  refine lv_iadd hx hb dX2_summedUp_6 ?_
  refine lv_iconst (v := 3) hx hb dX2_summedUp_7 (by decide) ?_
  refine lv_iload_n hx hb dX2_summedUp_8 rfl (lv_at hl 2 rfl) ?_
  refine lv_imul hx hb dX2_summedUp_9 ?_
  refine lv_iadd hx hb dX2_summedUp_10 ?_
  refine lv_istore_n (lv' := [(3, .int ((((681 : Int32) * x1) + (1 : Int32)) + ((3 : Int32) * x2))), (0, .ref (E.2.2.2.1 0)), (1, .int x1), (2, .int x2)]) hx hb dX2_summedUp_11 rfl hl (Nat.le_of_ble_eq_true rfl) rfl (fun ls hl => ?_)
  refine lv_sipush (v := 681) hx hb dX2_summedUp_12 (by decide) ?_
  refine lv_iload_n hx hb dX2_summedUp_15 rfl (lv_at hl 2 rfl) ?_
  refine lv_imul hx hb dX2_summedUp_16 ?_
  refine lv_bipush (v := 73) hx hb dX2_summedUp_17 (by decide) ?_
  refine lv_iadd hx hb dX2_summedUp_19 ?_
  refine lv_istore (lv' := [(4, .int (((681 : Int32) * x1) + (73 : Int32))), (3, .int ((((681 : Int32) * x1) + (1 : Int32)) + ((3 : Int32) * x2))), (0, .ref (E.2.2.2.1 0)), (1, .int x1), (2, .int x2)]) hx hb dX2_summedUp_20 hl (Nat.le_of_ble_eq_true rfl) rfl (fun ls hl => ?_)
  refine lv_iconst (v := 0) hx hb dX2_summedUp_22 (by decide) ?_
  refine lv_istore (lv' := [(5, .int (0 : Int32)), (4, .int (((681 : Int32) * x1) + (73 : Int32))), (3, .int ((((681 : Int32) * x1) + (1 : Int32)) + ((3 : Int32) * x2))), (0, .ref (E.2.2.2.1 0)), (1, .int x1), (2, .int x2)]) hx hb dX2_summedUp_23 hl (Nat.le_of_ble_eq_true rfl) rfl (fun ls hl => ?_)
  refine lv_iconst (v := 0) hx hb dX2_summedUp_25 (by decide) ?_
  refine lv_istore (lv' := [(6, .int (0 : Int32)), (5, .int (0 : Int32)), (4, .int (((681 : Int32) * x1) + (73 : Int32))), (3, .int ((((681 : Int32) * x1) + (1 : Int32)) + ((3 : Int32) * x2))), (0, .ref (E.2.2.2.1 0)), (1, .int x1), (2, .int x2)]) hx hb dX2_summedUp_26 hl (Nat.le_of_ble_eq_true rfl) rfl (fun ls hl => ?_)
  refine lv_aload_n hx hb dX2_summedUp_28 rfl (lv_at hl 4 rfl) ?_
  refine gM_16 hC hP dX2_summedUp_29 ?_
  refine lv_iload_n hx hb dX2_summedUp_32 rfl (lv_at hl 3 rfl) ?_
  refine lv_iconst (v := 1) hx hb dX2_summedUp_33 (by decide) ?_
  refine lv_iadd hx hb dX2_summedUp_34 ?_
  obtain ⟨c_1, hE⟩ := og hE
  refine aM_2 hC hP c_1 dX2_summedUp_35 ?_
  refine nm_i hE (fun v_2 ev_2 hE => ?_)
  refine lv_istore (lv' := [(7, .int v_2), (6, .int (0 : Int32)), (5, .int (0 : Int32)), (4, .int (((681 : Int32) * x1) + (73 : Int32))), (3, .int ((((681 : Int32) * x1) + (1 : Int32)) + ((3 : Int32) * x2))), (0, .ref (E.2.2.2.1 0)), (1, .int x1), (2, .int x2)]) hx hb dX2_summedUp_36 hl (Nat.le_of_ble_eq_true rfl) rfl (fun ls hl => ?_)
  obtain ⟨x_47, h_47, hE⟩ := ob hE
  refine lpo_walk (fun p_47 : Int32 × Int32 × Int32 × MS => mW p l e rmX2_summedUp s m args below meth c E 10 (mQ E below args s (some (.long y.1)) y.2) 38 [(0, .ref (E.2.2.2.1 0)), (3, .int ((((681 : Int32) * x1) + (1 : Int32)) + ((3 : Int32) * x2))), (4, .int (((681 : Int32) * x1) + (73 : Int32))), (5, .int p_47.1), (6, .int p_47.2.1), (7, .int p_47.2.2.1)] [] p_47.2.2.2) (fun q_47 : MS => mW p l e rmX2_summedUp s m args below meth c E 10 (mQ E below args s (some (.long y.1)) y.2) 406 [(0, .ref (E.2.2.2.1 0))] [] q_47) (fun a_47 y_47 hB_47 hc_47 hx_47 => wX2_summedUp_B38 k ((((681 : Int32) * x1) + (1 : Int32)) + ((3 : Int32) * x2)) (((681 : Int32) * x1) + (73 : Int32)) hC a_47 y_47 hB_47 hc_47 hx_47) _ _ x_47 h_47 ?_ H locs ls hP hS (lv_sub hl [5, 4, 3, 2, 1, 0] rfl)
  intro H locs ls hP hS hl
  refine lv_aload_n hx hb dX2_summedUp_406 rfl (lv_at hl 0 rfl) ?_
  refine gM_35 hC hP dX2_summedUp_407 ?_
  refine lv_iconst (v := 0) hx hb dX2_summedUp_410 (by decide) ?_
  refine aM_21 hC hP (i := (0 : Int32)) (by decide) dX2_summedUp_411 ?_
  obtain rfl := Option.some.inj hE
  exact m_lret hC hP hS dX2_summedUp_412
def fX2_held (x0 : Int64) (x2 : Int32) (x3 : Int32) : Option Int32 := if 0 ≤ (lg_cmp x0 x2.toInt64) then (if (lg_cmp x0 x3.toInt64) ≤ 0 then (some x0.toInt32) else (some x3)) else (some x2)
set_option maxHeartbeats 1000000 in
theorem wX2_held {l : Launch} (x0 : Int64) (x2 : Int32) (x3 : Int32) (y : Int32) (hE : fX2_held x0 x2 x3 = some y) : sM l yX2_held (ws_ yX2_held cX2_held 4 (some .int)) rmX2_held [.long x0, .int x2, .int x3] (some (.int y)) := by
  refine s_met (own := RX2) (by decide) rfl (Nat.le_of_ble_eq_true rfl) (fun p e s m args below meth c hC => ?_)
  intro ls hl
  have hx := hC.1
  have hb := hC.2.1
  have hown := hC.2.2.2.2.2.1
  have hts := hC.2.2.2.2.2.2
  have hl : lv_has ls 4 [(0, .long x0), (2, .int x2), (3, .int x3)] := hl
  unfold fX2_held at hE
  refine lv_lload_n hx hb dX2_held_0 rfl (lv_at hl 0 rfl) ?_
  refine lv_iload_n hx hb dX2_held_1 rfl (lv_at hl 1 rfl) ?_
  refine lv_i2l hx hb dX2_held_2 rfl ?_
  refine W.lcmp hx hb dX2_held_3 ?_
  refine lv_if_ge (tgt := 11) hx hb dX2_held_4 (by decide) (fun c_1 => ?_) (fun c_1 => ?_)
  · have hE := ip c_1 hE
    refine lv_lload_n hx hb dX2_held_11 rfl (lv_at hl 0 rfl) ?_
    refine lv_iload_n hx hb dX2_held_12 rfl (lv_at hl 2 rfl) ?_
    refine lv_i2l hx hb dX2_held_13 rfl ?_
    refine W.lcmp hx hb dX2_held_14 ?_
    refine lv_if_le (tgt := 22) hx hb dX2_held_15 (by decide) (fun c_2 => ?_) (fun c_2 => ?_)
    · have hE := ip c_2 hE
      refine lv_lload_n hx hb dX2_held_22 rfl (lv_at hl 0 rfl) ?_
      refine lv_l2i hx hb dX2_held_23 rfl ?_
      obtain rfl := Option.some.inj hE
      exact s_iret hC dX2_held_24
    · have hE := iq c_2 hE
      refine lv_iload_n hx hb dX2_held_18 rfl (lv_at hl 2 rfl) ?_
      refine lv_goto (tgt := 24) hx hb dX2_held_19 (by decide) ?_
      obtain rfl := Option.some.inj hE
      exact s_iret hC dX2_held_24
  · have hE := iq c_1 hE
    refine lv_iload_n hx hb dX2_held_7 rfl (lv_at hl 1 rfl) ?_
    refine lv_goto (tgt := 24) hx hb dX2_held_8 (by decide) ?_
    obtain rfl := Option.some.inj hE
    exact s_iret hC dX2_held_24
def fX2_says_B3 (k : Nat) (v1 : Int32) (v2 : Int32) (v3 : Int32) (w : MS) (a : Int32) : Option (Int32 ⊕ (Unit ⊕ Int32)) := if v1 < 0 then (some (.inr (.inl ()))) else (if ib ((681 : Int32) * v1) 2724 then none else (if (w.2.2.1 2 ((681 : Int32) * v1).toNatClampNeg) ≤ a then (some (.inr (.inl ()))) else (if ib ((((681 : Int32) * v1) + (1 : Int32)) + ((3 : Int32) * a)) 2724 then none else (if (w.2.2.1 2 ((((681 : Int32) * v1) + (1 : Int32)) + ((3 : Int32) * a)).toNatClampNeg) = v2 then (some (.inr (.inr a))) else (some (.inl (a + (1 : Int32))))))))
set_option maxHeartbeats 1000000 in
theorem wX2_says_B3 {p : Program} {l : Launch} {e : Env} {s : State} {m : MethodId} {args : Array Value} {below : List Frame} {meth : Method} {c : Code} {E : ME} {Q : State → Prop} (k : Nat) (v1 : Int32) (v2 : Int32) (v3 : Int32) (w : MS) (hC : mC E cX2_says 5 (some .int) p s m args meth c) (a : Int32) (y : Int32 ⊕ (Unit ⊕ Int32)) (hE : fX2_says_B3 k v1 v2 v3 w a = some y) (hc : ∀ a : Int32, y = .inl a → mW p l e rmX2_says s m args below meth c E 5 Q 3 [(0, .ref (E.2.2.2.1 0)), (1, .int v1), (2, .int v2), (3, .int v3), (4, .int a)] [] w) (hx1 : ∀ b : Unit, y = .inr (.inl b) → mW p l e rmX2_says s m args below meth c E 5 Q 62 [] [] w) (hx2 : ∀ b : Int32, y = .inr (.inr b) → mW p l e rmX2_says s m args below meth c E 5 Q 43 [(0, .ref (E.2.2.2.1 0)), (1, .int v1), (3, .int v3), (4, .int b)] [] w) : mW p l e rmX2_says s m args below meth c E 5 Q 3 [(0, .ref (E.2.2.2.1 0)), (1, .int v1), (2, .int v2), (3, .int v3), (4, .int a)] [] w := by
  intro H locs ls hP hS hl
  have hx := hC.1
  have hb := hC.2.1
  have hown := hC.2.2.2.2.2.1
  have hts := hC.2.2.2.2.2.2.1
  unfold fX2_says_B3 at hE
  refine lv_iload_n hx hb dX2_says_3 rfl (lv_at hl 1 rfl) ?_
  refine lv_if_lt (tgt := 62) hx hb dX2_says_4 (by decide) (fun c_1 => ?_) (fun c_1 => ?_)
  · have hE := ip c_1 hE
    exact hx1 _ (Option.some.inj hE).symm H locs ls hP hS (lv_sub hl [] rfl)
  · have hE := iq c_1 hE
    refine lv_iload hx hb dX2_says_7 (lv_at hl 4 rfl) ?_
    refine lv_aload_n hx hb dX2_says_9 rfl (lv_at hl 0 rfl) ?_
    refine gM_16 hC hP dX2_says_10 ?_
    refine lv_sipush (v := 681) hx hb dX2_says_13 (by decide) ?_
    refine lv_iload_n hx hb dX2_says_16 rfl (lv_at hl 1 rfl) ?_
    refine lv_imul hx hb dX2_says_17 ?_
    obtain ⟨c_2, hE⟩ := og hE
    refine aM_2 hC hP c_2 dX2_says_18 ?_
    refine lv_icmp_ge (tgt := 62) hx hb dX2_says_19 (by decide) (fun c_3 => ?_) (fun c_3 => ?_)
    · have hE := ip c_3 hE
      exact hx1 _ (Option.some.inj hE).symm H locs ls hP hS (lv_sub hl [] rfl)
    · have hE := iq c_3 hE
      refine lv_aload_n hx hb dX2_says_22 rfl (lv_at hl 0 rfl) ?_
      refine gM_16 hC hP dX2_says_23 ?_
      refine lv_sipush (v := 681) hx hb dX2_says_26 (by decide) ?_
      refine lv_iload_n hx hb dX2_says_29 rfl (lv_at hl 1 rfl) ?_
      refine lv_imul hx hb dX2_says_30 ?_
      refine lv_iconst (v := 1) hx hb dX2_says_31 (by decide) ?_
      refine lv_iadd hx hb dX2_says_32 ?_
      refine lv_iconst (v := 3) hx hb dX2_says_33 (by decide) ?_
      refine lv_iload hx hb dX2_says_34 (lv_at hl 4 rfl) ?_
      refine lv_imul hx hb dX2_says_36 ?_
      refine lv_iadd hx hb dX2_says_37 ?_
      obtain ⟨c_4, hE⟩ := og hE
      refine aM_2 hC hP c_4 dX2_says_38 ?_
      refine lv_iload_n hx hb dX2_says_39 rfl (lv_at hl 2 rfl) ?_
      refine lv_icmp_ne (tgt := 56) hx hb dX2_says_40 (by decide) (fun c_5 => ?_) (fun c_5 => ?_)
      · have hE := iq c_5 hE
        refine lv_iinc (v := (a + (1 : Int32))) (lv' := [(4, .int (a + (1 : Int32))), (0, .ref (E.2.2.2.1 0)), (1, .int v1), (2, .int v2), (3, .int v3)]) hx hb dX2_says_56 hl (k := 4) rfl rfl (Nat.le_of_ble_eq_true rfl) rfl (fun ls hl => ?_)
        refine lv_goto (tgt := 3) hx hb dX2_says_59 (by decide) ?_
        exact hc _ (Option.some.inj hE).symm H locs ls hP hS (lv_sub hl [1, 2, 3, 4, 0] rfl)
      · have hE := ip c_5 hE
        exact hx2 _ (Option.some.inj hE).symm H locs ls hP hS (lv_sub hl [0, 1, 3, 4] rfl)
def fX2_says (k : Nat) (z : MS) (x1 : Int32) (x2 : Int32) (x3 : Int32) : Option (Int32 × MS) := (lpo (fX2_says_B3 k x1 x2 x3 z) k (0 : Int32)).bind fun x_6 => (Sum.elim (fun t_6 : Unit => some ((1 : Int32), z)) (fun t_6 : Int32 => (fX2_summedUp k z x1 t_6).bind fun r_7 => (fX2_held r_7.1 (0 : Int32) x3).bind fun r_8 => some (r_8, r_7.2))) x_6
set_option maxHeartbeats 1000000 in
theorem wX2_says {l : Launch} {E : ME} (k : Nat) (z : MS) (x1 : Int32) (x2 : Int32) (x3 : Int32) (y : Int32 × MS) (hE : fX2_says k z x1 x2 x3 = some y) : mM l yX2_says (ws_ yX2_says cX2_says 5 (some .int)) rmX2_says E z [.int x1, .int x2, .int x3] (some (.int y.1)) y.2 := by
  refine m_met (by decide) rfl (Nat.le_of_ble_eq_true rfl) (fun p e s m args below meth c hC => ?_)
  intro H locs ls hP hS hl
  have hx := hC.1
  have hb := hC.2.1
  have hown := hC.2.2.2.2.2.1
  have hts := hC.2.2.2.2.2.2.1
  have hl : lv_has ls 5 [(0, .ref (E.2.2.2.1 0)), (1, .int x1), (2, .int x2), (3, .int x3)] := hl
  unfold fX2_says at hE
  refine lv_iconst (v := 0) hx hb dX2_says_0 (by decide) ?_
  refine lv_istore (lv' := [(4, .int (0 : Int32)), (0, .ref (E.2.2.2.1 0)), (1, .int x1), (2, .int x2), (3, .int x3)]) hx hb dX2_says_1 hl (Nat.le_of_ble_eq_true rfl) rfl (fun ls hl => ?_)
  obtain ⟨x_6, h_6, hE⟩ := ob hE
  refine lpo_walk (fun p_6 : Int32 => mW p l e rmX2_says s m args below meth c E 5 (mQ E below args s (some (.int y.1)) y.2) 3 [(0, .ref (E.2.2.2.1 0)), (1, .int x1), (2, .int x2), (3, .int x3), (4, .int p_6)] [] z) (fun q_6 : (Unit ⊕ Int32) => (∀ t_6 : Unit, q_6 = (.inl t_6) → mW p l e rmX2_says s m args below meth c E 5 (mQ E below args s (some (.int y.1)) y.2) 62 [] [] z) ∧ (∀ t_6 : Int32, q_6 = (.inr t_6) → mW p l e rmX2_says s m args below meth c E 5 (mQ E below args s (some (.int y.1)) y.2) 43 [(0, .ref (E.2.2.2.1 0)), (1, .int x1), (3, .int x3), (4, .int t_6)] [] z)) (fun a_6 y_6 hB_6 hc_6 hx_6 => wX2_says_B3 k x1 x2 x3 z hC a_6 y_6 hB_6 hc_6 (fun t_6 e_6 => (hx_6 _ e_6).1 t_6 rfl) (fun t_6 e_6 => (hx_6 _ e_6).2 t_6 rfl)) _ _ x_6 h_6 ?_ H locs ls hP hS (lv_sub hl [1, 2, 3, 4, 0] rfl)
  refine ⟨?_, ?_⟩
  · intro t_6 e_6
    subst e_6
    have hE := oel hE
    intro H locs ls hP hS hl
    refine lv_iconst (v := 1) hx hb dX2_says_62 (by decide) ?_
    obtain rfl := Option.some.inj hE
    exact m_iret hC hP hS dX2_says_63
  · intro t_6 e_6
    subst e_6
    have hE := oer hE
    intro H locs ls hP hS hl
    refine lv_aload_n hx hb dX2_says_43 rfl (lv_at hl 0 rfl) ?_
    refine lv_iload_n hx hb dX2_says_44 rfl (lv_at hl 1 rfl) ?_
    refine lv_iload hx hb dX2_says_45 (lv_at hl 3 rfl) ?_
    obtain ⟨r_7, h_7, hE⟩ := ob hE
    refine m_calll [.int x1, .int t_6] hC hP hS hl.1 (wX2_summedUp k z x1 t_6 r_7 h_7) (cwV 2 hts lkX2_278 rfl rfl rfl cdX2_summedUp ⟨Nat.le_of_ble_eq_true rfl, Nat.le_of_ble_eq_true rfl⟩) rfl rfl (lv_room (Nat.le_of_ble_eq_true rfl)) dX2_says_47 (fun H locs hP hS => ?_)
    refine lv_iconst (v := 0) hx hb dX2_says_50 (by decide) ?_
    refine lv_iload_n hx hb dX2_says_51 rfl (lv_at hl 2 rfl) ?_
    obtain ⟨r_8, h_8, hE⟩ := ob hE
    refine s_calli [.long r_7.1, .int (0 : Int32), .int x3] hC.sC hl.1 (wX2_held r_7.1 (0 : Int32) x3 r_8 h_8) (va_cwS 3 hts lkX2_281 rfl rfl rfl cdX2_held ⟨Nat.le_of_ble_eq_true rfl, Nat.le_of_ble_eq_true rfl⟩) rfl rfl (lv_room (Nat.le_of_ble_eq_true rfl)) ⟨Nat.zero_le _, Nat.zero_le _⟩ dX2_says_52 ?_
    obtain rfl := Option.some.inj hE
    exact m_iret hC hP hS dX2_says_55
def fX2_catchesOf (k : Nat) (z : MS) (x1 : Int32) (x2 : Int32) (x3 : Int32) (x4 : Int32) : Option (Int32 × MS) := (fX2_name z x3).bind fun r_1 => nm (mA r_1 20 (upd (r_1.2.2.1 20) (4 : Int32).toNatClampNeg x4)) fun z_2 => if ib ((76 : Int32) + x2) 3205 then none else (nm (mA z_2 20 (upd (z_2.2.2.1 20) (5 : Int32).toNatClampNeg (z_2.2.2.1 0 ((76 : Int32) + x2).toNatClampNeg))) fun z_4 => if ib ((83 : Int32) + x2) 3205 then none else (nm (mA z_4 20 (upd (z_4.2.2.1 20) (6 : Int32).toNatClampNeg (z_4.2.2.1 0 ((83 : Int32) + x2).toNatClampNeg))) fun z_6 => nm (mA z_6 20 (upd (z_6.2.2.1 20) (7 : Int32).toNatClampNeg x2)) fun z_7 => (fX2_says k z_7 x1 (0 : Int32) (10 : Int32)).bind fun r_8 => some (r_8.1, r_8.2)))
set_option maxHeartbeats 1000000 in
theorem wX2_catchesOf {l : Launch} {E : ME} (k : Nat) (z : MS) (x1 : Int32) (x2 : Int32) (x3 : Int32) (x4 : Int32) (y : Int32 × MS) (hE : fX2_catchesOf k z x1 x2 x3 x4 = some y) : mM l yX2_catchesOf (ws_ yX2_catchesOf cX2_catchesOf 5 (some .int)) rmX2_catchesOf E z [.int x1, .int x2, .int x3, .int x4] (some (.int y.1)) y.2 := by
  refine m_met (by decide) rfl (Nat.le_of_ble_eq_true rfl) (fun p e s m args below meth c hC => ?_)
  intro H locs ls hP hS hl
  have hx := hC.1
  have hb := hC.2.1
  have hown := hC.2.2.2.2.2.1
  have hts := hC.2.2.2.2.2.2.1
  have hl : lv_has ls 5 [(0, .ref (E.2.2.2.1 0)), (1, .int x1), (2, .int x2), (3, .int x3), (4, .int x4)] := hl
  unfold fX2_catchesOf at hE
  refine lv_aload_n hx hb dX2_catchesOf_0 rfl (lv_at hl 0 rfl) ?_
  refine lv_iload_n hx hb dX2_catchesOf_1 rfl (lv_at hl 3 rfl) ?_
  obtain ⟨r_1, h_1, hE⟩ := ob hE
  refine m_callv [.int x3] hC hP hS hl.1 (wX2_name z x3 r_1 h_1) (cwV 1 hts lkX2_285 rfl rfl rfl cdX2_name ⟨Nat.le_of_ble_eq_true rfl, Nat.le_of_ble_eq_true rfl⟩) rfl rfl (lv_room (Nat.le_of_ble_eq_true rfl)) dX2_catchesOf_2 (fun H locs hP hS => ?_)
  refine lv_aload_n hx hb dX2_catchesOf_5 rfl (lv_at hl 0 rfl) ?_
  refine gM_32 hC hP dX2_catchesOf_6 ?_
  refine lv_iconst (v := 4) hx hb dX2_catchesOf_9 (by decide) ?_
  refine lv_iload hx hb dX2_catchesOf_10 (lv_at hl 4 rfl) ?_
  obtain ⟨z_2, ez_2, hE⟩ := on hE
  refine tM_20 hC hP hS (i := (4 : Int32)) (by decide) ez_2 dX2_catchesOf_12 (fun H locs hP hS => ?_)
  refine lv_aload_n hx hb dX2_catchesOf_13 rfl (lv_at hl 0 rfl) ?_
  refine gM_32 hC hP dX2_catchesOf_14 ?_
  refine lv_iconst (v := 5) hx hb dX2_catchesOf_17 (by decide) ?_
  refine lv_aload_n hx hb dX2_catchesOf_18 rfl (lv_at hl 0 rfl) ?_
  refine gM_7 hC hP dX2_catchesOf_19 ?_
  refine lv_bipush (v := 76) hx hb dX2_catchesOf_22 (by decide) ?_
  refine lv_iload_n hx hb dX2_catchesOf_24 rfl (lv_at hl 2 rfl) ?_
  refine lv_iadd hx hb dX2_catchesOf_25 ?_
  obtain ⟨c_3, hE⟩ := og hE
  refine aM_0 hC hP c_3 dX2_catchesOf_26 ?_
  obtain ⟨z_4, ez_4, hE⟩ := on hE
  refine tM_20 hC hP hS (i := (5 : Int32)) (by decide) ez_4 dX2_catchesOf_27 (fun H locs hP hS => ?_)
  refine lv_aload_n hx hb dX2_catchesOf_28 rfl (lv_at hl 0 rfl) ?_
  refine gM_32 hC hP dX2_catchesOf_29 ?_
  refine lv_bipush (v := 6) hx hb dX2_catchesOf_32 (by decide) ?_
  refine lv_aload_n hx hb dX2_catchesOf_34 rfl (lv_at hl 0 rfl) ?_
  refine gM_7 hC hP dX2_catchesOf_35 ?_
  refine lv_bipush (v := 83) hx hb dX2_catchesOf_38 (by decide) ?_
  refine lv_iload_n hx hb dX2_catchesOf_40 rfl (lv_at hl 2 rfl) ?_
  refine lv_iadd hx hb dX2_catchesOf_41 ?_
  obtain ⟨c_5, hE⟩ := og hE
  refine aM_0 hC hP c_5 dX2_catchesOf_42 ?_
  obtain ⟨z_6, ez_6, hE⟩ := on hE
  refine tM_20 hC hP hS (i := (6 : Int32)) (by decide) ez_6 dX2_catchesOf_43 (fun H locs hP hS => ?_)
  refine lv_aload_n hx hb dX2_catchesOf_44 rfl (lv_at hl 0 rfl) ?_
  refine gM_32 hC hP dX2_catchesOf_45 ?_
  refine lv_bipush (v := 7) hx hb dX2_catchesOf_48 (by decide) ?_
  refine lv_iload_n hx hb dX2_catchesOf_50 rfl (lv_at hl 2 rfl) ?_
  obtain ⟨z_7, ez_7, hE⟩ := on hE
  refine tM_20 hC hP hS (i := (7 : Int32)) (by decide) ez_7 dX2_catchesOf_51 (fun H locs hP hS => ?_)
  refine lv_aload_n hx hb dX2_catchesOf_52 rfl (lv_at hl 0 rfl) ?_
  refine lv_iload_n hx hb dX2_catchesOf_53 rfl (lv_at hl 1 rfl) ?_
  refine lv_iconst (v := 0) hx hb dX2_catchesOf_54 (by decide) ?_
  refine lv_bipush (v := 10) hx hb dX2_catchesOf_55 (by decide) ?_
  obtain ⟨r_8, h_8, hE⟩ := ob hE
  refine m_calli [.int x1, .int (0 : Int32), .int (10 : Int32)] hC hP hS hl.1 (wX2_says k z_7 x1 (0 : Int32) (10 : Int32) r_8 h_8) (cwV 3 hts lkX2_288 rfl rfl rfl cdX2_says ⟨Nat.le_of_ble_eq_true rfl, Nat.le_of_ble_eq_true rfl⟩) rfl rfl (lv_room (Nat.le_of_ble_eq_true rfl)) dX2_catchesOf_57 (fun H locs hP hS => ?_)
  obtain rfl := Option.some.inj hE
  exact m_iret hC hP hS dX2_catchesOf_60
def fX2_anew (z : MS)  : Option MS := nm (mA z 0 (upd (z.2.2.1 0) (7 : Int32).toNatClampNeg ((((z.2.2.1 0 (7 : Int32).toNatClampNeg).toInt64 * (503 : Int64)) + (389 : Int64)) - (((z.2.2.1 0 (7 : Int32).toNatClampNeg).toInt64 * (503 : Int64)) + (389 : Int64)) / (30691 : Int64) * (30691 : Int64)).toInt32)) fun z_2 => some z_2
set_option maxHeartbeats 1000000 in
theorem wX2_anew {l : Launch} {E : ME} (z : MS)  (y : MS) (hE : fX2_anew z  = some y) : mM l yX2_anew (ws_ yX2_anew cX2_anew 1 none) rmX2_anew E z [] none y := by
  refine m_met (by decide) rfl (Nat.le_of_ble_eq_true rfl) (fun p e s m args below meth c hC => ?_)
  intro H locs ls hP hS hl
  have hx := hC.1
  have hb := hC.2.1
  have hown := hC.2.2.2.2.2.1
  have hts := hC.2.2.2.2.2.2.1
  have hl : lv_has ls 1 [(0, .ref (E.2.2.2.1 0))] := hl
  unfold fX2_anew at hE
  refine lv_aload_n hx hb dX2_anew_0 rfl (lv_at hl 0 rfl) ?_
  refine gM_7 hC hP dX2_anew_1 ?_
  refine lv_bipush (v := 7) hx hb dX2_anew_4 (by decide) ?_
  refine lv_aload_n hx hb dX2_anew_6 rfl (lv_at hl 0 rfl) ?_
  refine gM_7 hC hP dX2_anew_7 ?_
  refine lv_bipush (v := 7) hx hb dX2_anew_10 (by decide) ?_
  refine aM_0 hC hP (i := (7 : Int32)) (by decide) dX2_anew_12 ?_
  refine lv_i2l hx hb dX2_anew_13 rfl ?_
  refine lv_ldc2 (v := 503) hx hb hown (hts _ q1730) dX2_anew_14 ?_
  refine lv_lmul hx hb dX2_anew_17 ?_
  refine lv_ldc2 (v := 389) hx hb hown (hts _ q1731) dX2_anew_18 ?_
  refine lv_ladd hx hb dX2_anew_21 ?_
  refine lv_ldc2 (v := 30691) hx hb hown (hts _ q1732) dX2_anew_22 ?_
  refine lv_lrem hx hb dX2_anew_25 (by decide) ?_
  refine lv_l2i hx hb dX2_anew_26 rfl ?_
  obtain ⟨z_2, ez_2, hE⟩ := on hE
  refine tM_0 hC hP hS (i := (7 : Int32)) (by decide) ez_2 dX2_anew_27 (fun H locs hP hS => ?_)
  obtain rfl := Option.some.inj hE
  exact m_vret hC hP hS dX2_anew_28
def fX2_drawnBy (z : MS) (x1 : Int32) : Option (Int32 × MS) := if x1 = (0 : Int32) then none else nm ((z.2.2.1 0 (7 : Int32).toNatClampNeg) - (z.2.2.1 0 (7 : Int32).toNatClampNeg) / x1 * x1) fun v_3 => (fX2_anew z ).bind fun r_4 => some (v_3, r_4)
set_option maxHeartbeats 1000000 in
theorem wX2_drawnBy {l : Launch} {E : ME} (z : MS) (x1 : Int32) (y : Int32 × MS) (hE : fX2_drawnBy z x1 = some y) : mM l yX2_drawnBy (ws_ yX2_drawnBy cX2_drawnBy 3 (some .int)) rmX2_drawnBy E z [.int x1] (some (.int y.1)) y.2 := by
  refine m_met (by decide) rfl (Nat.le_of_ble_eq_true rfl) (fun p e s m args below meth c hC => ?_)
  intro H locs ls hP hS hl
  have hx := hC.1
  have hb := hC.2.1
  have hown := hC.2.2.2.2.2.1
  have hts := hC.2.2.2.2.2.2.1
  have hl : lv_has ls 3 [(0, .ref (E.2.2.2.1 0)), (1, .int x1)] := hl
  unfold fX2_drawnBy at hE
  refine lv_aload_n hx hb dX2_drawnBy_0 rfl (lv_at hl 0 rfl) ?_
  refine gM_7 hC hP dX2_drawnBy_1 ?_
  refine lv_bipush (v := 7) hx hb dX2_drawnBy_4 (by decide) ?_
  refine aM_0 hC hP (i := (7 : Int32)) (by decide) dX2_drawnBy_6 ?_
  refine lv_iload_n hx hb dX2_drawnBy_7 rfl (lv_at hl 1 rfl) ?_
  obtain ⟨c_2, hE⟩ := og hE
  refine lv_irem hx hb dX2_drawnBy_8 c_2 ?_
  refine nm_i hE (fun v_3 ev_3 hE => ?_)
  refine lv_istore_n (lv' := [(2, .int v_3), (0, .ref (E.2.2.2.1 0)), (1, .int x1)]) hx hb dX2_drawnBy_9 rfl hl (Nat.le_of_ble_eq_true rfl) rfl (fun ls hl => ?_)
  refine lv_aload_n hx hb dX2_drawnBy_10 rfl (lv_at hl 1 rfl) ?_
  obtain ⟨r_4, h_4, hE⟩ := ob hE
  refine m_callv [] hC hP hS hl.1 (wX2_anew z  r_4 h_4) (cwV 0 hts lkX2_291 rfl rfl rfl cdX2_anew ⟨Nat.le_of_ble_eq_true rfl, Nat.le_of_ble_eq_true rfl⟩) rfl rfl (lv_room (Nat.le_of_ble_eq_true rfl)) dX2_drawnBy_11 (fun H locs hP hS => ?_)
  refine lv_iload_n hx hb dX2_drawnBy_14 rfl (lv_at hl 0 rfl) ?_
  obtain rfl := Option.some.inj hE
  exact m_iret hC hP hS dX2_drawnBy_15
def fX2_write_J67 (k : Nat) (z : MS) (x1 : Int32) (x2 : Int32) : Option (MS) := if ib ((69 : Int32) + x1) 3205 then none else (if ib ((3175 : Int32) + (z.2.2.1 0 (8 : Int32).toNatClampNeg)) 3205 then none else (nm (mA z 0 (upd (z.2.2.1 0) ((3175 : Int32) + (z.2.2.1 0 (8 : Int32).toNatClampNeg)).toNatClampNeg (((((((z.2.2.1 0 (6 : Int32).toNatClampNeg) * (7 : Int32)) + x1) * (30 : Int32)) + x2) * (61 : Int32)) + (z.2.2.1 0 ((69 : Int32) + x1).toNatClampNeg)))) fun z_7 => nm (mA z_7 0 (upd (z_7.2.2.1 0) (8 : Int32).toNatClampNeg ((z_7.2.2.1 0 (8 : Int32).toNatClampNeg) + (1 : Int32)))) fun z_9 => some z_9))
set_option maxHeartbeats 1000000 in
theorem wX2_write_J67 {p : Program} {l : Launch} {e : Env} {s : State} {m : MethodId} {args : Array Value} {below : List Frame} {meth : Method} {c : Code} {E : ME} (k : Nat) (z : MS) (x1 : Int32) (x2 : Int32) (hC : mC E cX2_write 4 none p s m args meth c) (y : MS) (hE : fX2_write_J67 k z x1 x2 = some y) : mW p l e rmX2_write s m args below meth c E 4 (mQ E below args s none y) 67 [(0, .ref (E.2.2.2.1 0)), (1, .int x1), (2, .int x2)] [] z := by
  intro H locs ls hP hS hl
  have hx := hC.1
  have hb := hC.2.1
  have hown := hC.2.2.2.2.2.1
  have hts := hC.2.2.2.2.2.2.1
  unfold fX2_write_J67 at hE
  refine lv_aload_n hx hb dX2_write_67 rfl (lv_at hl 0 rfl) ?_
  refine gM_7 hC hP dX2_write_68 ?_
  refine lv_sipush (v := 3175) hx hb dX2_write_71 (by decide) ?_
  refine lv_aload_n hx hb dX2_write_74 rfl (lv_at hl 0 rfl) ?_
  refine gM_7 hC hP dX2_write_75 ?_
  refine lv_bipush (v := 8) hx hb dX2_write_78 (by decide) ?_
  refine aM_0 hC hP (i := (8 : Int32)) (by decide) dX2_write_80 ?_
  refine lv_iadd hx hb dX2_write_81 ?_
  refine lv_aload_n hx hb dX2_write_82 rfl (lv_at hl 0 rfl) ?_
  refine gM_7 hC hP dX2_write_83 ?_
  refine lv_bipush (v := 6) hx hb dX2_write_86 (by decide) ?_
  refine aM_0 hC hP (i := (6 : Int32)) (by decide) dX2_write_88 ?_
  refine lv_bipush (v := 7) hx hb dX2_write_89 (by decide) ?_
  refine lv_imul hx hb dX2_write_91 ?_
  refine lv_iload_n hx hb dX2_write_92 rfl (lv_at hl 1 rfl) ?_
  refine lv_iadd hx hb dX2_write_93 ?_
  refine lv_bipush (v := 30) hx hb dX2_write_94 (by decide) ?_
  refine lv_imul hx hb dX2_write_96 ?_
  refine lv_iload_n hx hb dX2_write_97 rfl (lv_at hl 2 rfl) ?_
  refine lv_iadd hx hb dX2_write_98 ?_
  refine lv_bipush (v := 61) hx hb dX2_write_99 (by decide) ?_
  refine lv_imul hx hb dX2_write_101 ?_
  refine lv_aload_n hx hb dX2_write_102 rfl (lv_at hl 0 rfl) ?_
  refine gM_7 hC hP dX2_write_103 ?_
  refine lv_bipush (v := 69) hx hb dX2_write_106 (by decide) ?_
  refine lv_iload_n hx hb dX2_write_108 rfl (lv_at hl 1 rfl) ?_
  refine lv_iadd hx hb dX2_write_109 ?_
  obtain ⟨c_6, hE⟩ := og hE
  refine aM_0 hC hP c_6 dX2_write_110 ?_
  refine lv_iadd hx hb dX2_write_111 ?_
  obtain ⟨c_7, hE⟩ := og hE
  obtain ⟨z_7, ez_7, hE⟩ := on hE
  refine tM_0 hC hP hS c_7 ez_7 dX2_write_112 (fun H locs hP hS => ?_)
  refine lv_aload_n hx hb dX2_write_113 rfl (lv_at hl 0 rfl) ?_
  refine gM_7 hC hP dX2_write_114 ?_
  refine lv_bipush (v := 8) hx hb dX2_write_117 (by decide) ?_
  refine lv_dup2_11 hx hb dX2_write_119 rfl rfl ?_
  refine aM_0 hC hP (i := (8 : Int32)) (by decide) dX2_write_120 ?_
  refine lv_iconst (v := 1) hx hb dX2_write_121 (by decide) ?_
  refine lv_iadd hx hb dX2_write_122 ?_
  obtain ⟨z_9, ez_9, hE⟩ := on hE
  refine tM_0 hC hP hS (i := (8 : Int32)) (by decide) ez_9 dX2_write_123 (fun H locs hP hS => ?_)
  obtain rfl := Option.some.inj hE
  exact m_vret hC hP hS dX2_write_124
def fX2_write_B22 (k : Nat) (v1 : Int32) (v2 : Int32) (a : Int32 × MS) : Option ((Int32 × MS) ⊕ MS) := if (30 : Int32) ≤ a.1 then (some (.inr a.2)) else (if ib ((3175 : Int32) + a.1) 3205 then none else (if ib (((3175 : Int32) + a.1) - (1 : Int32)) 3205 then none else (nm (mA a.2 0 (upd (a.2.2.2.1 0) (((3175 : Int32) + a.1) - (1 : Int32)).toNatClampNeg (a.2.2.2.1 0 ((3175 : Int32) + a.1).toNatClampNeg))) fun z_12 => some (.inl ((a.1 + (1 : Int32)), z_12)))))
set_option maxHeartbeats 1000000 in
theorem wX2_write_B22 {p : Program} {l : Launch} {e : Env} {s : State} {m : MethodId} {args : Array Value} {below : List Frame} {meth : Method} {c : Code} {E : ME} {Q : State → Prop} (k : Nat) (v1 : Int32) (v2 : Int32) (hC : mC E cX2_write 4 none p s m args meth c) (a : Int32 × MS) (y : (Int32 × MS) ⊕ MS) (hE : fX2_write_B22 k v1 v2 a = some y) (hc : ∀ a : Int32 × MS, y = .inl a → mW p l e rmX2_write s m args below meth c E 4 Q 22 [(0, .ref (E.2.2.2.1 0)), (1, .int v1), (2, .int v2), (3, .int a.1)] [] a.2) (hx1 : ∀ b : MS, y = .inr b → mW p l e rmX2_write s m args below meth c E 4 Q 56 [(0, .ref (E.2.2.2.1 0)), (1, .int v1), (2, .int v2)] [] b) : mW p l e rmX2_write s m args below meth c E 4 Q 22 [(0, .ref (E.2.2.2.1 0)), (1, .int v1), (2, .int v2), (3, .int a.1)] [] a.2 := by
  intro H locs ls hP hS hl
  have hx := hC.1
  have hb := hC.2.1
  have hown := hC.2.2.2.2.2.1
  have hts := hC.2.2.2.2.2.2.1
  unfold fX2_write_B22 at hE
  refine lv_iload_n hx hb dX2_write_22 rfl (lv_at hl 3 rfl) ?_
  refine lv_bipush (v := 30) hx hb dX2_write_23 (by decide) ?_
  refine lv_icmp_ge (tgt := 56) hx hb dX2_write_25 (by decide) (fun c_10 => ?_) (fun c_10 => ?_)
  · have hE := ip c_10 hE
    exact hx1 _ (Option.some.inj hE).symm H locs ls hP hS (lv_sub hl [0, 1, 2] rfl)
  · have hE := iq c_10 hE
    refine lv_aload_n hx hb dX2_write_28 rfl (lv_at hl 0 rfl) ?_
    refine gM_7 hC hP dX2_write_29 ?_
    refine lv_sipush (v := 3175) hx hb dX2_write_32 (by decide) ?_
    refine lv_iload_n hx hb dX2_write_35 rfl (lv_at hl 3 rfl) ?_
    refine lv_iadd hx hb dX2_write_36 ?_
    refine lv_iconst (v := 1) hx hb dX2_write_37 (by decide) ?_
    refine lv_isub hx hb dX2_write_38 ?_
    refine lv_aload_n hx hb dX2_write_39 rfl (lv_at hl 0 rfl) ?_
    refine gM_7 hC hP dX2_write_40 ?_
    refine lv_sipush (v := 3175) hx hb dX2_write_43 (by decide) ?_
    refine lv_iload_n hx hb dX2_write_46 rfl (lv_at hl 3 rfl) ?_
    refine lv_iadd hx hb dX2_write_47 ?_
    obtain ⟨c_11, hE⟩ := og hE
    refine aM_0 hC hP c_11 dX2_write_48 ?_
    obtain ⟨c_12, hE⟩ := og hE
    obtain ⟨z_12, ez_12, hE⟩ := on hE
    refine tM_0 hC hP hS c_12 ez_12 dX2_write_49 (fun H locs hP hS => ?_)
    refine lv_iinc (v := (a.1 + (1 : Int32))) (lv' := [(3, .int (a.1 + (1 : Int32))), (0, .ref (E.2.2.2.1 0)), (1, .int v1), (2, .int v2)]) hx hb dX2_write_50 hl (k := 3) rfl rfl (Nat.le_of_ble_eq_true rfl) rfl (fun ls hl => ?_)
    refine lv_goto (tgt := 22) hx hb dX2_write_53 (by decide) ?_
    exact hc _ (Option.some.inj hE).symm H locs ls hP hS (lv_sub hl [1, 2, 3, 0] rfl)
def fX2_write (k : Nat) (z : MS) (x1 : Int32) (x2 : Int32) : Option MS := if (z.1 23) = 0 then (some z) else (if (z.2.2.1 0 (8 : Int32).toNatClampNeg) = (30 : Int32) then ((lpo (fX2_write_B22 k x1 x2) k ((1 : Int32), z)).bind fun x_13 => nm (mA x_13 0 (upd (x_13.2.2.1 0) (8 : Int32).toNatClampNeg ((x_13.2.2.1 0 (8 : Int32).toNatClampNeg) - (1 : Int32)))) fun z_15 => (fX2_write_J67 k z_15 x1 x2)) else ((fX2_write_J67 k z x1 x2)))
set_option maxHeartbeats 1000000 in
theorem wX2_write {l : Launch} {E : ME} (k : Nat) (z : MS) (x1 : Int32) (x2 : Int32) (y : MS) (hE : fX2_write k z x1 x2 = some y) : mM l yX2_write (ws_ yX2_write cX2_write 4 none) rmX2_write E z [.int x1, .int x2] none y := by
  refine m_met (by decide) rfl (Nat.le_of_ble_eq_true rfl) (fun p e s m args below meth c hC => ?_)
  intro H locs ls hP hS hl
  have hx := hC.1
  have hb := hC.2.1
  have hown := hC.2.2.2.2.2.1
  have hts := hC.2.2.2.2.2.2.1
  have hl : lv_has ls 4 [(0, .ref (E.2.2.2.1 0)), (1, .int x1), (2, .int x2)] := hl
  unfold fX2_write at hE
  refine lv_aload_n hx hb dX2_write_0 rfl (lv_at hl 0 rfl) ?_
  refine gM_43 hC hP dX2_write_1 ?_
  refine lv_if_ne (tgt := 8) hx hb dX2_write_4 (by decide) (fun c_1 => ?_) (fun c_1 => ?_)
  · have hE := iq c_1 hE
    refine lv_aload_n hx hb dX2_write_8 rfl (lv_at hl 0 rfl) ?_
    refine gM_7 hC hP dX2_write_9 ?_
    refine lv_bipush (v := 8) hx hb dX2_write_12 (by decide) ?_
    refine aM_0 hC hP (i := (8 : Int32)) (by decide) dX2_write_14 ?_
    refine lv_bipush (v := 30) hx hb dX2_write_15 (by decide) ?_
    refine lv_icmp_ne (tgt := 67) hx hb dX2_write_17 (by decide) (fun c_3 => ?_) (fun c_3 => ?_)
    · have hE := iq c_3 hE
      exact wX2_write_J67 k z x1 x2 hC y hE H locs ls hP hS hl
    · have hE := ip c_3 hE
      refine lv_iconst (v := 1) hx hb dX2_write_20 (by decide) ?_
      refine lv_istore_n (lv' := [(3, .int (1 : Int32)), (0, .ref (E.2.2.2.1 0)), (1, .int x1), (2, .int x2)]) hx hb dX2_write_21 rfl hl (Nat.le_of_ble_eq_true rfl) rfl (fun ls hl => ?_)
      obtain ⟨x_13, h_13, hE⟩ := ob hE
      refine lpo_walk (fun p_13 : Int32 × MS => mW p l e rmX2_write s m args below meth c E 4 (mQ E below args s none y) 22 [(0, .ref (E.2.2.2.1 0)), (1, .int x1), (2, .int x2), (3, .int p_13.1)] [] p_13.2) (fun q_13 : MS => mW p l e rmX2_write s m args below meth c E 4 (mQ E below args s none y) 56 [(0, .ref (E.2.2.2.1 0)), (1, .int x1), (2, .int x2)] [] q_13) (fun a_13 y_13 hB_13 hc_13 hx_13 => wX2_write_B22 k x1 x2 hC a_13 y_13 hB_13 hc_13 hx_13) _ _ x_13 h_13 ?_ H locs ls hP hS (lv_sub hl [1, 2, 3, 0] rfl)
      intro H locs ls hP hS hl
      refine lv_aload_n hx hb dX2_write_56 rfl (lv_at hl 0 rfl) ?_
      refine gM_7 hC hP dX2_write_57 ?_
      refine lv_bipush (v := 8) hx hb dX2_write_60 (by decide) ?_
      refine lv_dup2_11 hx hb dX2_write_62 rfl rfl ?_
      refine aM_0 hC hP (i := (8 : Int32)) (by decide) dX2_write_63 ?_
      refine lv_iconst (v := 1) hx hb dX2_write_64 (by decide) ?_
      refine lv_isub hx hb dX2_write_65 ?_
      obtain ⟨z_15, ez_15, hE⟩ := on hE
      refine tM_0 hC hP hS (i := (8 : Int32)) (by decide) ez_15 dX2_write_66 (fun H locs hP hS => ?_)
      exact wX2_write_J67 k z_15 x1 x2 hC y hE H locs ls hP hS hl
  · have hE := ip c_1 hE
    obtain rfl := Option.some.inj hE
    exact m_vret hC hP hS dX2_write_7
def fX2_runNow_J97 (k : Nat) (z : MS) (v1 : Int32) (v2 : Int32) (x3 : Int32) (x5 : Int32) (t0 : Int32) : Option ((Int32 × Int32 × Int32 × MS) ⊕ (Int32 × MS)) := some (.inl (x3, t0, (x5 + (1 : Int32)), z))
set_option maxHeartbeats 1000000 in
theorem wX2_runNow_J97 {p : Program} {l : Launch} {e : Env} {s : State} {m : MethodId} {args : Array Value} {below : List Frame} {meth : Method} {c : Code} {E : ME} {Q : State → Prop} (k : Nat) (z : MS) (v1 : Int32) (v2 : Int32) (x3 : Int32) (x5 : Int32) (t0 : Int32) (hC : mC E cX2_runNow 8 none p s m args meth c) (y : (Int32 × Int32 × Int32 × MS) ⊕ (Int32 × MS)) (hE : fX2_runNow_J97 k z v1 v2 x3 x5 t0 = some y) (hc : ∀ a : Int32 × Int32 × Int32 × MS, y = .inl a → mW p l e rmX2_runNow s m args below meth c E 8 Q 8 [(0, .ref (E.2.2.2.1 0)), (1, .int v1), (2, .int v2), (3, .int a.1), (4, .int a.2.1), (5, .int a.2.2.1)] [] a.2.2.2) (hx1 : ∀ b : Int32 × MS, y = .inr b → mW p l e rmX2_runNow s m args below meth c E 8 Q 105 [(0, .ref (E.2.2.2.1 0)), (1, .int v1), (2, .int v2), (3, .int b.1)] [] b.2) : mW p l e rmX2_runNow s m args below meth c E 8 Q 97 [(0, .ref (E.2.2.2.1 0)), (1, .int v1), (2, .int v2), (3, .int x3), (5, .int x5)] [.int t0] z := by
  intro H locs ls hP hS hl
  have hx := hC.1
  have hb := hC.2.1
  have hown := hC.2.2.2.2.2.1
  have hts := hC.2.2.2.2.2.2.1
  unfold fX2_runNow_J97 at hE
  refine lv_istore (lv' := [(4, .int t0), (0, .ref (E.2.2.2.1 0)), (1, .int v1), (2, .int v2), (3, .int x3), (5, .int x5)]) hx hb dX2_runNow_97 hl (Nat.le_of_ble_eq_true rfl) rfl (fun ls hl => ?_)
  refine lv_iinc (v := (x5 + (1 : Int32))) (lv' := [(5, .int (x5 + (1 : Int32))), (4, .int t0), (0, .ref (E.2.2.2.1 0)), (1, .int v1), (2, .int v2), (3, .int x3)]) hx hb dX2_runNow_99 hl (k := 5) rfl rfl (Nat.le_of_ble_eq_true rfl) rfl (fun ls hl => ?_)
  refine lv_goto (tgt := 8) hx hb dX2_runNow_102 (by decide) ?_
  exact hc _ (Option.some.inj hE).symm H locs ls hP hS (lv_sub hl [2, 3, 4, 5, 1, 0] rfl)
def fX2_runNow_J48 (k : Nat) (z : MS) (v1 : Int32) (v2 : Int32) (x3 : Int32) (x5 : Int32) (x6 : Int32) (t0 : Int32) : Option ((Int32 × Int32 × Int32 × MS) ⊕ (Int32 × MS)) := (fX2_isBar z x6).bind fun r_6 => if r_6 = 0 then (some (.inl (x3, t0, (x5 + (1 : Int32)), z))) else ((fX2_catchesOf k z (z.2.2.1 0 (2 : Int32).toNatClampNeg) v1 x6 (x3 + (1 : Int32))).bind fun r_9 => (fX2_drawnBy r_9.2 (10 : Int32)).bind fun r_10 => if r_10.1 < r_9.1 then ((fX2_runNow_J97 k r_10.2 v1 v2 (x3 + (1 : Int32)) x5 (0 : Int32))) else ((fX2_runNow_J97 k r_10.2 v1 v2 (x3 + (1 : Int32)) x5 (1 : Int32))))
set_option maxHeartbeats 1000000 in
theorem wX2_runNow_J48 {p : Program} {l : Launch} {e : Env} {s : State} {m : MethodId} {args : Array Value} {below : List Frame} {meth : Method} {c : Code} {E : ME} {Q : State → Prop} (k : Nat) (z : MS) (v1 : Int32) (v2 : Int32) (x3 : Int32) (x5 : Int32) (x6 : Int32) (t0 : Int32) (hC : mC E cX2_runNow 8 none p s m args meth c) (y : (Int32 × Int32 × Int32 × MS) ⊕ (Int32 × MS)) (hE : fX2_runNow_J48 k z v1 v2 x3 x5 x6 t0 = some y) (hc : ∀ a : Int32 × Int32 × Int32 × MS, y = .inl a → mW p l e rmX2_runNow s m args below meth c E 8 Q 8 [(0, .ref (E.2.2.2.1 0)), (1, .int v1), (2, .int v2), (3, .int a.1), (4, .int a.2.1), (5, .int a.2.2.1)] [] a.2.2.2) (hx1 : ∀ b : Int32 × MS, y = .inr b → mW p l e rmX2_runNow s m args below meth c E 8 Q 105 [(0, .ref (E.2.2.2.1 0)), (1, .int v1), (2, .int v2), (3, .int b.1)] [] b.2) : mW p l e rmX2_runNow s m args below meth c E 8 Q 48 [(0, .ref (E.2.2.2.1 0)), (1, .int v1), (2, .int v2), (3, .int x3), (5, .int x5), (6, .int x6)] [.int t0] z := by
  intro H locs ls hP hS hl
  have hx := hC.1
  have hb := hC.2.1
  have hown := hC.2.2.2.2.2.1
  have hts := hC.2.2.2.2.2.2.1
  unfold fX2_runNow_J48 at hE
  refine lv_istore (lv' := [(4, .int t0), (0, .ref (E.2.2.2.1 0)), (1, .int v1), (2, .int v2), (3, .int x3), (5, .int x5), (6, .int x6)]) hx hb dX2_runNow_48 hl (Nat.le_of_ble_eq_true rfl) rfl (fun ls hl => ?_)
  refine lv_aload_n hx hb dX2_runNow_50 rfl (lv_at hl 1 rfl) ?_
  refine lv_iload hx hb dX2_runNow_51 (lv_at hl 6 rfl) ?_
  obtain ⟨r_6, h_6, hE⟩ := ob hE
  refine m_calli [.int x6] hC hP hS hl.1 (wX2_isBar z x6 r_6 h_6) (cwV 1 hts lkX2_300 rfl rfl rfl cdX2_isBar ⟨Nat.le_of_ble_eq_true rfl, Nat.le_of_ble_eq_true rfl⟩) rfl rfl (lv_room (Nat.le_of_ble_eq_true rfl)) dX2_runNow_53 (fun H locs hP hS => ?_)
  refine lv_if_ne (tgt := 62) hx hb dX2_runNow_56 (by decide) (fun c_7 => ?_) (fun c_7 => ?_)
  · have hE := iq c_7 hE
    refine lv_iinc (v := (x3 + (1 : Int32))) (lv' := [(3, .int (x3 + (1 : Int32))), (4, .int t0), (0, .ref (E.2.2.2.1 0)), (1, .int v1), (2, .int v2), (5, .int x5), (6, .int x6)]) hx hb dX2_runNow_62 hl (k := 4) rfl rfl (Nat.le_of_ble_eq_true rfl) rfl (fun ls hl => ?_)
    refine lv_aload_n hx hb dX2_runNow_65 rfl (lv_at hl 2 rfl) ?_
    refine lv_aload_n hx hb dX2_runNow_66 rfl (lv_at hl 2 rfl) ?_
    refine gM_7 hC hP dX2_runNow_67 ?_
    refine lv_iconst (v := 2) hx hb dX2_runNow_70 (by decide) ?_
    refine aM_0 hC hP (i := (2 : Int32)) (by decide) dX2_runNow_71 ?_
    refine lv_iload_n hx hb dX2_runNow_72 rfl (lv_at hl 3 rfl) ?_
    refine lv_iload hx hb dX2_runNow_73 (lv_at hl 6 rfl) ?_
    refine lv_iload_n hx hb dX2_runNow_75 rfl (lv_at hl 0 rfl) ?_
    obtain ⟨r_9, h_9, hE⟩ := ob hE
    refine m_calli [.int (z.2.2.1 0 (2 : Int32).toNatClampNeg), .int v1, .int x6, .int (x3 + (1 : Int32))] hC hP hS hl.1 (wX2_catchesOf k z (z.2.2.1 0 (2 : Int32).toNatClampNeg) v1 x6 (x3 + (1 : Int32)) r_9 h_9) (cwV 4 hts lkX2_303 rfl rfl rfl cdX2_catchesOf ⟨Nat.le_of_ble_eq_true rfl, Nat.le_of_ble_eq_true rfl⟩) rfl rfl (lv_room (Nat.le_of_ble_eq_true rfl)) dX2_runNow_76 (fun H locs hP hS => ?_)
    refine lv_istore (lv' := [(7, .int r_9.1), (3, .int (x3 + (1 : Int32))), (4, .int t0), (0, .ref (E.2.2.2.1 0)), (1, .int v1), (2, .int v2), (5, .int x5), (6, .int x6)]) hx hb dX2_runNow_79 hl (Nat.le_of_ble_eq_true rfl) rfl (fun ls hl => ?_)
    refine lv_aload_n hx hb dX2_runNow_81 rfl (lv_at hl 3 rfl) ?_
    refine lv_bipush (v := 10) hx hb dX2_runNow_82 (by decide) ?_
    obtain ⟨r_10, h_10, hE⟩ := ob hE
    refine m_calli [.int (10 : Int32)] hC hP hS hl.1 (wX2_drawnBy r_9.2 (10 : Int32) r_10 h_10) (cwV 1 hts lkX2_307 rfl rfl rfl cdX2_drawnBy ⟨Nat.le_of_ble_eq_true rfl, Nat.le_of_ble_eq_true rfl⟩) rfl rfl (lv_room (Nat.le_of_ble_eq_true rfl)) dX2_runNow_84 (fun H locs hP hS => ?_)
    refine lv_iload hx hb dX2_runNow_87 (lv_at hl 0 rfl) ?_
    refine lv_icmp_lt (tgt := 96) hx hb dX2_runNow_89 (by decide) (fun c_11 => ?_) (fun c_11 => ?_)
    · have hE := ip c_11 hE
      refine lv_iconst (v := 0) hx hb dX2_runNow_96 (by decide) ?_
      exact wX2_runNow_J97 k r_10.2 v1 v2 (x3 + (1 : Int32)) x5 (0 : Int32) hC y hE hc hx1 H locs ls hP hS (lv_sub hl [3, 4, 5, 1, 6] rfl)
    · have hE := iq c_11 hE
      refine lv_iconst (v := 1) hx hb dX2_runNow_92 (by decide) ?_
      refine lv_goto (tgt := 97) hx hb dX2_runNow_93 (by decide) ?_
      exact wX2_runNow_J97 k r_10.2 v1 v2 (x3 + (1 : Int32)) x5 (1 : Int32) hC y hE hc hx1 H locs ls hP hS (lv_sub hl [3, 4, 5, 1, 6] rfl)
  · have hE := ip c_7 hE
    refine lv_goto (tgt := 99) hx hb dX2_runNow_59 (by decide) ?_
    refine lv_iinc (v := (x5 + (1 : Int32))) (lv' := [(5, .int (x5 + (1 : Int32))), (4, .int t0), (0, .ref (E.2.2.2.1 0)), (1, .int v1), (2, .int v2), (3, .int x3), (6, .int x6)]) hx hb dX2_runNow_99 hl (k := 5) rfl rfl (Nat.le_of_ble_eq_true rfl) rfl (fun ls hl => ?_)
    refine lv_goto (tgt := 8) hx hb dX2_runNow_102 (by decide) ?_
    exact hc _ (Option.some.inj hE).symm H locs ls hP hS (lv_sub hl [2, 3, 4, 5, 1, 0] rfl)
def fX2_runNow_B8 (k : Nat) (v1 : Int32) (v2 : Int32) (a : Int32 × Int32 × Int32 × MS) : Option ((Int32 × Int32 × Int32 × MS) ⊕ (Int32 × MS)) := if (60 : Int32) ≤ a.2.2.1 then (some (.inr (a.1, a.2.2.2))) else (if a.2.1 = 0 then (some (.inr (a.1, a.2.2.2))) else (nm ((v2 + a.2.2.1) - (v2 + a.2.2.1) / (30 : Int32) * (30 : Int32)) fun v_3 => if ib ((9 : Int32) + v_3) 3205 then none else (if (a.2.2.2.2.2.1 0 ((9 : Int32) + v_3).toNatClampNeg) = (3 : Int32) then ((fX2_runNow_J48 k a.2.2.2 v1 v2 a.1 a.2.2.1 v_3 (0 : Int32))) else ((fX2_runNow_J48 k a.2.2.2 v1 v2 a.1 a.2.2.1 v_3 (1 : Int32))))))
set_option maxHeartbeats 1000000 in
theorem wX2_runNow_B8 {p : Program} {l : Launch} {e : Env} {s : State} {m : MethodId} {args : Array Value} {below : List Frame} {meth : Method} {c : Code} {E : ME} {Q : State → Prop} (k : Nat) (v1 : Int32) (v2 : Int32) (hC : mC E cX2_runNow 8 none p s m args meth c) (a : Int32 × Int32 × Int32 × MS) (y : (Int32 × Int32 × Int32 × MS) ⊕ (Int32 × MS)) (hE : fX2_runNow_B8 k v1 v2 a = some y) (hc : ∀ a : Int32 × Int32 × Int32 × MS, y = .inl a → mW p l e rmX2_runNow s m args below meth c E 8 Q 8 [(0, .ref (E.2.2.2.1 0)), (1, .int v1), (2, .int v2), (3, .int a.1), (4, .int a.2.1), (5, .int a.2.2.1)] [] a.2.2.2) (hx1 : ∀ b : Int32 × MS, y = .inr b → mW p l e rmX2_runNow s m args below meth c E 8 Q 105 [(0, .ref (E.2.2.2.1 0)), (1, .int v1), (2, .int v2), (3, .int b.1)] [] b.2) : mW p l e rmX2_runNow s m args below meth c E 8 Q 8 [(0, .ref (E.2.2.2.1 0)), (1, .int v1), (2, .int v2), (3, .int a.1), (4, .int a.2.1), (5, .int a.2.2.1)] [] a.2.2.2 := by
  intro H locs ls hP hS hl
  have hx := hC.1
  have hb := hC.2.1
  have hown := hC.2.2.2.2.2.1
  have hts := hC.2.2.2.2.2.2.1
  unfold fX2_runNow_B8 at hE
  refine lv_iload hx hb dX2_runNow_8 (lv_at hl 5 rfl) ?_
  refine lv_bipush (v := 60) hx hb dX2_runNow_10 (by decide) ?_
  refine lv_icmp_ge (tgt := 105) hx hb dX2_runNow_12 (by decide) (fun c_1 => ?_) (fun c_1 => ?_)
  · have hE := ip c_1 hE
    exact hx1 _ (Option.some.inj hE).symm H locs ls hP hS (lv_sub hl [0, 1, 2, 3] rfl)
  · have hE := iq c_1 hE
    refine lv_iload hx hb dX2_runNow_15 (lv_at hl 4 rfl) ?_
    refine lv_if_eq (tgt := 105) hx hb dX2_runNow_17 (by decide) (fun c_2 => ?_) (fun c_2 => ?_)
    · have hE := ip c_2 hE
      exact hx1 _ (Option.some.inj hE).symm H locs ls hP hS (lv_sub hl [0, 1, 2, 3] rfl)
    · have hE := iq c_2 hE
      refine lv_iload_n hx hb dX2_runNow_20 rfl (lv_at hl 2 rfl) ?_
      refine lv_iload hx hb dX2_runNow_21 (lv_at hl 5 rfl) ?_
      refine lv_iadd hx hb dX2_runNow_23 ?_
      refine lv_bipush (v := 30) hx hb dX2_runNow_24 (by decide) ?_
      refine lv_irem hx hb dX2_runNow_26 (by decide) ?_
      refine nm_i hE (fun v_3 ev_3 hE => ?_)
      refine lv_istore (lv' := [(6, .int v_3), (0, .ref (E.2.2.2.1 0)), (1, .int v1), (2, .int v2), (3, .int a.1), (4, .int a.2.1), (5, .int a.2.2.1)]) hx hb dX2_runNow_27 hl (Nat.le_of_ble_eq_true rfl) rfl (fun ls hl => ?_)
      refine lv_aload_n hx hb dX2_runNow_29 rfl (lv_at hl 1 rfl) ?_
      refine gM_7 hC hP dX2_runNow_30 ?_
      refine lv_bipush (v := 9) hx hb dX2_runNow_33 (by decide) ?_
      refine lv_iload hx hb dX2_runNow_35 (lv_at hl 0 rfl) ?_
      refine lv_iadd hx hb dX2_runNow_37 ?_
      obtain ⟨c_4, hE⟩ := og hE
      refine aM_0 hC hP c_4 dX2_runNow_38 ?_
      refine lv_iconst (v := 3) hx hb dX2_runNow_39 (by decide) ?_
      refine lv_icmp_eq (tgt := 47) hx hb dX2_runNow_40 (by decide) (fun c_5 => ?_) (fun c_5 => ?_)
      · have hE := ip c_5 hE
        refine lv_iconst (v := 0) hx hb dX2_runNow_47 (by decide) ?_
        exact wX2_runNow_J48 k a.2.2.2 v1 v2 a.1 a.2.2.1 v_3 (0 : Int32) hC y hE hc hx1 H locs ls hP hS (lv_sub hl [1, 2, 3, 4, 6, 0] rfl)
      · have hE := iq c_5 hE
        refine lv_iconst (v := 1) hx hb dX2_runNow_43 (by decide) ?_
        refine lv_goto (tgt := 48) hx hb dX2_runNow_44 (by decide) ?_
        exact wX2_runNow_J48 k a.2.2.2 v1 v2 a.1 a.2.2.1 v_3 (1 : Int32) hC y hE hc hx1 H locs ls hP hS (lv_sub hl [1, 2, 3, 4, 6, 0] rfl)
def fX2_runNow_J105 (k : Nat) (z : MS) (x1 : Int32) (x2 : Int32) (x3 : Int32) : Option (MS) := if ib ((69 : Int32) + x1) 3205 then none else (nm (mA z 0 (upd (z.2.2.1 0) ((69 : Int32) + x1).toNatClampNeg x3)) fun z_13 => nm (mI z_13 24 ((z_13.1 24) + (1 : Int32))) fun z_14 => (fX2_write k z_14 x1 x2).bind fun r_15 => some r_15)
set_option maxHeartbeats 1000000 in
theorem wX2_runNow_J105 {p : Program} {l : Launch} {e : Env} {s : State} {m : MethodId} {args : Array Value} {below : List Frame} {meth : Method} {c : Code} {E : ME} (k : Nat) (z : MS) (x1 : Int32) (x2 : Int32) (x3 : Int32) (hC : mC E cX2_runNow 8 none p s m args meth c) (y : MS) (hE : fX2_runNow_J105 k z x1 x2 x3 = some y) : mW p l e rmX2_runNow s m args below meth c E 8 (mQ E below args s none y) 105 [(0, .ref (E.2.2.2.1 0)), (1, .int x1), (2, .int x2), (3, .int x3)] [] z := by
  intro H locs ls hP hS hl
  have hx := hC.1
  have hb := hC.2.1
  have hown := hC.2.2.2.2.2.1
  have hts := hC.2.2.2.2.2.2.1
  unfold fX2_runNow_J105 at hE
  refine lv_aload_n hx hb dX2_runNow_105 rfl (lv_at hl 0 rfl) ?_
  refine gM_7 hC hP dX2_runNow_106 ?_
  refine lv_bipush (v := 69) hx hb dX2_runNow_109 (by decide) ?_
  refine lv_iload_n hx hb dX2_runNow_111 rfl (lv_at hl 1 rfl) ?_
  refine lv_iadd hx hb dX2_runNow_112 ?_
  refine lv_iload_n hx hb dX2_runNow_113 rfl (lv_at hl 3 rfl) ?_
  obtain ⟨c_13, hE⟩ := og hE
  obtain ⟨z_13, ez_13, hE⟩ := on hE
  refine tM_0 hC hP hS c_13 ez_13 dX2_runNow_114 (fun H locs hP hS => ?_)
  refine lv_aload_n hx hb dX2_runNow_115 rfl (lv_at hl 0 rfl) ?_
  refine lv_dup hx hb dX2_runNow_116 rfl ?_
  refine gM_310 hC hP dX2_runNow_117 ?_
  refine lv_iconst (v := 1) hx hb dX2_runNow_120 (by decide) ?_
  refine lv_iadd hx hb dX2_runNow_121 ?_
  obtain ⟨z_14, ez_14, hE⟩ := on hE
  refine pM_310 hC hP hS ez_14 dX2_runNow_122 (fun H locs hP hS => ?_)
  refine lv_aload_n hx hb dX2_runNow_125 rfl (lv_at hl 0 rfl) ?_
  refine lv_iload_n hx hb dX2_runNow_126 rfl (lv_at hl 1 rfl) ?_
  refine lv_iload_n hx hb dX2_runNow_127 rfl (lv_at hl 2 rfl) ?_
  obtain ⟨r_15, h_15, hE⟩ := ob hE
  refine m_callv [.int x1, .int x2] hC hP hS hl.1 (wX2_write k z_14 x1 x2 r_15 h_15) (cwV 2 hts lkX2_313 rfl rfl rfl cdX2_write ⟨Nat.le_of_ble_eq_true rfl, Nat.le_of_ble_eq_true rfl⟩) rfl rfl (lv_room (Nat.le_of_ble_eq_true rfl)) dX2_runNow_128 (fun H locs hP hS => ?_)
  obtain rfl := Option.some.inj hE
  exact m_vret hC hP hS dX2_runNow_131
def fX2_runNow (k : Nat) (z : MS) (x1 : Int32) (x2 : Int32) : Option MS := (lpo (fX2_runNow_B8 k x1 x2) k ((0 : Int32), (1 : Int32), (0 : Int32), z)).bind fun x_12 => (fX2_runNow_J105 k x_12.2 x1 x2 x_12.1)
set_option maxHeartbeats 1000000 in
theorem wX2_runNow {l : Launch} {E : ME} (k : Nat) (z : MS) (x1 : Int32) (x2 : Int32) (y : MS) (hE : fX2_runNow k z x1 x2 = some y) : mM l yX2_runNow (ws_ yX2_runNow cX2_runNow 8 none) rmX2_runNow E z [.int x1, .int x2] none y := by
  refine m_met (by decide) rfl (Nat.le_of_ble_eq_true rfl) (fun p e s m args below meth c hC => ?_)
  intro H locs ls hP hS hl
  have hx := hC.1
  have hb := hC.2.1
  have hown := hC.2.2.2.2.2.1
  have hts := hC.2.2.2.2.2.2.1
  have hl : lv_has ls 8 [(0, .ref (E.2.2.2.1 0)), (1, .int x1), (2, .int x2)] := hl
  unfold fX2_runNow at hE
  refine lv_iconst (v := 0) hx hb dX2_runNow_0 (by decide) ?_
  refine lv_istore_n (lv' := [(3, .int (0 : Int32)), (0, .ref (E.2.2.2.1 0)), (1, .int x1), (2, .int x2)]) hx hb dX2_runNow_1 rfl hl (Nat.le_of_ble_eq_true rfl) rfl (fun ls hl => ?_)
  refine lv_iconst (v := 1) hx hb dX2_runNow_2 (by decide) ?_
  refine lv_istore (lv' := [(4, .int (1 : Int32)), (3, .int (0 : Int32)), (0, .ref (E.2.2.2.1 0)), (1, .int x1), (2, .int x2)]) hx hb dX2_runNow_3 hl (Nat.le_of_ble_eq_true rfl) rfl (fun ls hl => ?_)
  refine lv_iconst (v := 0) hx hb dX2_runNow_5 (by decide) ?_
  refine lv_istore (lv' := [(5, .int (0 : Int32)), (4, .int (1 : Int32)), (3, .int (0 : Int32)), (0, .ref (E.2.2.2.1 0)), (1, .int x1), (2, .int x2)]) hx hb dX2_runNow_6 hl (Nat.le_of_ble_eq_true rfl) rfl (fun ls hl => ?_)
  obtain ⟨x_12, h_12, hE⟩ := ob hE
  refine lpo_walk (fun p_12 : Int32 × Int32 × Int32 × MS => mW p l e rmX2_runNow s m args below meth c E 8 (mQ E below args s none y) 8 [(0, .ref (E.2.2.2.1 0)), (1, .int x1), (2, .int x2), (3, .int p_12.1), (4, .int p_12.2.1), (5, .int p_12.2.2.1)] [] p_12.2.2.2) (fun q_12 : Int32 × MS => mW p l e rmX2_runNow s m args below meth c E 8 (mQ E below args s none y) 105 [(0, .ref (E.2.2.2.1 0)), (1, .int x1), (2, .int x2), (3, .int q_12.1)] [] q_12.2) (fun a_12 y_12 hB_12 hc_12 hx_12 => wX2_runNow_B8 k x1 x2 hC a_12 y_12 hB_12 hc_12 hx_12) _ _ x_12 h_12 ?_ H locs ls hP hS (lv_sub hl [3, 4, 5, 2, 1, 0] rfl)
  intro H locs ls hP hS hl
  exact wX2_runNow_J105 k x_12.2 x1 x2 x_12.1 hC y hE H locs ls hP hS hl
def fX2_run (k : Nat) (z : MS) (x1 : Int32) (x2 : Int32) : Option (Int32 × MS) := (fX2_canRun z x1).bind fun r_1 => if r_1 = 0 then (some ((-1 : Int32), z)) else ((fX2_isPlace x2).bind fun r_3 => if r_3 = 0 then (some ((-1 : Int32), z)) else ((fX2_keep k z ).bind fun r_5 => (fX2_runNow k r_5 x1 x2).bind fun r_6 => if ib ((69 : Int32) + x1) 3205 then none else (some ((r_6.2.2.1 0 ((69 : Int32) + x1).toNatClampNeg), r_6))))
set_option maxHeartbeats 1000000 in
theorem wX2_run {l : Launch} {E : ME} (k : Nat) (z : MS) (x1 : Int32) (x2 : Int32) (y : Int32 × MS) (hE : fX2_run k z x1 x2 = some y) : mM l yX2_run (ws_ yX2_run cX2_run 3 (some .int)) rmX2_run E z [.int x1, .int x2] (some (.int y.1)) y.2 := by
  refine m_met (by decide) rfl (Nat.le_of_ble_eq_true rfl) (fun p e s m args below meth c hC => ?_)
  intro H locs ls hP hS hl
  have hx := hC.1
  have hb := hC.2.1
  have hown := hC.2.2.2.2.2.1
  have hts := hC.2.2.2.2.2.2.1
  have hl : lv_has ls 3 [(0, .ref (E.2.2.2.1 0)), (1, .int x1), (2, .int x2)] := hl
  unfold fX2_run at hE
  refine lv_aload_n hx hb dX2_run_0 rfl (lv_at hl 0 rfl) ?_
  refine lv_iload_n hx hb dX2_run_1 rfl (lv_at hl 1 rfl) ?_
  obtain ⟨r_1, h_1, hE⟩ := ob hE
  refine m_calli [.int x1] hC hP hS hl.1 (wX2_canRun z x1 r_1 h_1) (cwV 1 hts lkX2_325 rfl rfl rfl cdX2_canRun ⟨Nat.le_of_ble_eq_true rfl, Nat.le_of_ble_eq_true rfl⟩) rfl rfl (lv_room (Nat.le_of_ble_eq_true rfl)) dX2_run_2 (fun H locs hP hS => ?_)
  refine lv_if_eq (tgt := 15) hx hb dX2_run_5 (by decide) (fun c_2 => ?_) (fun c_2 => ?_)
  · have hE := ip c_2 hE
    refine lv_iconst (v := -1) hx hb dX2_run_15 (by decide) ?_
    obtain rfl := Option.some.inj hE
    exact m_iret hC hP hS dX2_run_16
  · have hE := iq c_2 hE
    refine lv_iload_n hx hb dX2_run_8 rfl (lv_at hl 2 rfl) ?_
    obtain ⟨r_3, h_3, hE⟩ := ob hE
    refine s_calli [.int x2] hC.sC hl.1 (wX2_isPlace x2 r_3 h_3) (va_cwS 1 hts lkX2_73 rfl rfl rfl cdX2_isPlace ⟨Nat.le_of_ble_eq_true rfl, Nat.le_of_ble_eq_true rfl⟩) rfl rfl (lv_room (Nat.le_of_ble_eq_true rfl)) ⟨Nat.zero_le _, Nat.zero_le _⟩ dX2_run_9 ?_
    refine lv_if_ne (tgt := 17) hx hb dX2_run_12 (by decide) (fun c_4 => ?_) (fun c_4 => ?_)
    · have hE := iq c_4 hE
      refine lv_aload_n hx hb dX2_run_17 rfl (lv_at hl 0 rfl) ?_
      obtain ⟨r_5, h_5, hE⟩ := ob hE
      refine m_callv [] hC hP hS hl.1 (wX2_keep k z  r_5 h_5) (cwV 0 hts lkX2_328 rfl rfl rfl cdX2_keep ⟨Nat.le_of_ble_eq_true rfl, Nat.le_of_ble_eq_true rfl⟩) rfl rfl (lv_room (Nat.le_of_ble_eq_true rfl)) dX2_run_18 (fun H locs hP hS => ?_)
      refine lv_aload_n hx hb dX2_run_21 rfl (lv_at hl 0 rfl) ?_
      refine lv_iload_n hx hb dX2_run_22 rfl (lv_at hl 1 rfl) ?_
      refine lv_iload_n hx hb dX2_run_23 rfl (lv_at hl 2 rfl) ?_
      obtain ⟨r_6, h_6, hE⟩ := ob hE
      refine m_callv [.int x1, .int x2] hC hP hS hl.1 (wX2_runNow k r_5 x1 x2 r_6 h_6) (cwV 2 hts lkX2_316 rfl rfl rfl cdX2_runNow ⟨Nat.le_of_ble_eq_true rfl, Nat.le_of_ble_eq_true rfl⟩) rfl rfl (lv_room (Nat.le_of_ble_eq_true rfl)) dX2_run_24 (fun H locs hP hS => ?_)
      refine lv_aload_n hx hb dX2_run_27 rfl (lv_at hl 0 rfl) ?_
      refine gM_7 hC hP dX2_run_28 ?_
      refine lv_bipush (v := 69) hx hb dX2_run_31 (by decide) ?_
      refine lv_iload_n hx hb dX2_run_33 rfl (lv_at hl 1 rfl) ?_
      refine lv_iadd hx hb dX2_run_34 ?_
      obtain ⟨c_7, hE⟩ := og hE
      refine aM_0 hC hP c_7 dX2_run_35 ?_
      obtain rfl := Option.some.inj hE
      exact m_iret hC hP hS dX2_run_36
    · have hE := ip c_4 hE
      refine lv_iconst (v := -1) hx hb dX2_run_15 (by decide) ?_
      obtain rfl := Option.some.inj hE
      exact m_iret hC hP hS dX2_run_16
def fX2_cut (k : Nat) (z : MS) (x1 : Int32) : Option (Int32 × MS) := (fX2_isPlace x1).bind fun r_1 => if r_1 = 0 then (some ((0 : Int32), z)) else ((fX2_isBar z x1).bind fun r_3 => if r_3 = 0 then (some ((0 : Int32), z)) else ((fX2_keep k z ).bind fun r_5 => if ib ((9 : Int32) + x1) 3205 then none else (nm (mA r_5 0 (upd (r_5.2.2.1 0) ((9 : Int32) + x1).toNatClampNeg (0 : Int32))) fun z_6 => some ((1 : Int32), z_6))))
set_option maxHeartbeats 1000000 in
theorem wX2_cut {l : Launch} {E : ME} (k : Nat) (z : MS) (x1 : Int32) (y : Int32 × MS) (hE : fX2_cut k z x1 = some y) : mM l yX2_cut (ws_ yX2_cut cX2_cut 2 (some .boolean)) rmX2_cut E z [.int x1] (some (.int y.1)) y.2 := by
  refine m_met (by decide) rfl (Nat.le_of_ble_eq_true rfl) (fun p e s m args below meth c hC => ?_)
  intro H locs ls hP hS hl
  have hx := hC.1
  have hb := hC.2.1
  have hown := hC.2.2.2.2.2.1
  have hts := hC.2.2.2.2.2.2.1
  have hl : lv_has ls 2 [(0, .ref (E.2.2.2.1 0)), (1, .int x1)] := hl
  unfold fX2_cut at hE
  refine lv_iload_n hx hb dX2_cut_0 rfl (lv_at hl 1 rfl) ?_
  obtain ⟨r_1, h_1, hE⟩ := ob hE
  refine s_calli [.int x1] hC.sC hl.1 (wX2_isPlace x1 r_1 h_1) (va_cwS 1 hts lkX2_73 rfl rfl rfl cdX2_isPlace ⟨Nat.le_of_ble_eq_true rfl, Nat.le_of_ble_eq_true rfl⟩) rfl rfl (lv_room (Nat.le_of_ble_eq_true rfl)) ⟨Nat.zero_le _, Nat.zero_le _⟩ dX2_cut_1 ?_
  refine lv_if_eq (tgt := 15) hx hb dX2_cut_4 (by decide) (fun c_2 => ?_) (fun c_2 => ?_)
  · have hE := ip c_2 hE
    refine lv_iconst (v := 0) hx hb dX2_cut_15 (by decide) ?_
    obtain rfl := Option.some.inj hE
    exact m_zret (v := (0 : Int32)) hC hP hS (by decide) dX2_cut_16
  · have hE := iq c_2 hE
    refine lv_aload_n hx hb dX2_cut_7 rfl (lv_at hl 0 rfl) ?_
    refine lv_iload_n hx hb dX2_cut_8 rfl (lv_at hl 1 rfl) ?_
    obtain ⟨r_3, h_3, hE⟩ := ob hE
    refine m_calli [.int x1] hC hP hS hl.1 (wX2_isBar z x1 r_3 h_3) (cwV 1 hts lkX2_300 rfl rfl rfl cdX2_isBar ⟨Nat.le_of_ble_eq_true rfl, Nat.le_of_ble_eq_true rfl⟩) rfl rfl (lv_room (Nat.le_of_ble_eq_true rfl)) dX2_cut_9 (fun H locs hP hS => ?_)
    refine lv_if_ne (tgt := 17) hx hb dX2_cut_12 (by decide) (fun c_4 => ?_) (fun c_4 => ?_)
    · have hE := iq c_4 hE
      refine lv_aload_n hx hb dX2_cut_17 rfl (lv_at hl 0 rfl) ?_
      obtain ⟨r_5, h_5, hE⟩ := ob hE
      refine m_callv [] hC hP hS hl.1 (wX2_keep k z  r_5 h_5) (cwV 0 hts lkX2_328 rfl rfl rfl cdX2_keep ⟨Nat.le_of_ble_eq_true rfl, Nat.le_of_ble_eq_true rfl⟩) rfl rfl (lv_room (Nat.le_of_ble_eq_true rfl)) dX2_cut_18 (fun H locs hP hS => ?_)
      refine lv_aload_n hx hb dX2_cut_21 rfl (lv_at hl 0 rfl) ?_
      refine gM_7 hC hP dX2_cut_22 ?_
      refine lv_bipush (v := 9) hx hb dX2_cut_25 (by decide) ?_
      refine lv_iload_n hx hb dX2_cut_27 rfl (lv_at hl 1 rfl) ?_
      refine lv_iadd hx hb dX2_cut_28 ?_
      refine lv_iconst (v := 0) hx hb dX2_cut_29 (by decide) ?_
      obtain ⟨c_6, hE⟩ := og hE
      obtain ⟨z_6, ez_6, hE⟩ := on hE
      refine tM_0 hC hP hS c_6 ez_6 dX2_cut_30 (fun H locs hP hS => ?_)
      refine lv_iconst (v := 1) hx hb dX2_cut_31 (by decide) ?_
      obtain rfl := Option.some.inj hE
      exact m_zret (v := (1 : Int32)) hC hP hS (by decide) dX2_cut_32
    · have hE := ip c_4 hE
      refine lv_iconst (v := 0) hx hb dX2_cut_15 (by decide) ?_
      obtain rfl := Option.some.inj hE
      exact m_zret (v := (0 : Int32)) hC hP hS (by decide) dX2_cut_16
def fX2_addNow (z : MS) (x1 : Int32) : Option MS := if ib ((9 : Int32) + x1) 3205 then none else (nm (mA z 0 (upd (z.2.2.1 0) ((9 : Int32) + x1).toNatClampNeg (1 : Int32))) fun z_1 => if ib ((39 : Int32) + x1) 3205 then none else (nm (mA z_1 0 (upd (z_1.2.2.1 0) ((39 : Int32) + x1).toNatClampNeg (0 : Int32))) fun z_2 => some z_2))
set_option maxHeartbeats 1000000 in
theorem wX2_addNow {l : Launch} {E : ME} (z : MS) (x1 : Int32) (y : MS) (hE : fX2_addNow z x1 = some y) : mM l yX2_addNow (ws_ yX2_addNow cX2_addNow 2 none) rmX2_addNow E z [.int x1] none y := by
  refine m_met (by decide) rfl (Nat.le_of_ble_eq_true rfl) (fun p e s m args below meth c hC => ?_)
  intro H locs ls hP hS hl
  have hx := hC.1
  have hb := hC.2.1
  have hown := hC.2.2.2.2.2.1
  have hts := hC.2.2.2.2.2.2.1
  have hl : lv_has ls 2 [(0, .ref (E.2.2.2.1 0)), (1, .int x1)] := hl
  unfold fX2_addNow at hE
  refine lv_aload_n hx hb dX2_addNow_0 rfl (lv_at hl 0 rfl) ?_
  refine gM_7 hC hP dX2_addNow_1 ?_
  refine lv_bipush (v := 9) hx hb dX2_addNow_4 (by decide) ?_
  refine lv_iload_n hx hb dX2_addNow_6 rfl (lv_at hl 1 rfl) ?_
  refine lv_iadd hx hb dX2_addNow_7 ?_
  refine lv_iconst (v := 1) hx hb dX2_addNow_8 (by decide) ?_
  obtain ⟨c_1, hE⟩ := og hE
  obtain ⟨z_1, ez_1, hE⟩ := on hE
  refine tM_0 hC hP hS c_1 ez_1 dX2_addNow_9 (fun H locs hP hS => ?_)
  refine lv_aload_n hx hb dX2_addNow_10 rfl (lv_at hl 0 rfl) ?_
  refine gM_7 hC hP dX2_addNow_11 ?_
  refine lv_bipush (v := 39) hx hb dX2_addNow_14 (by decide) ?_
  refine lv_iload_n hx hb dX2_addNow_16 rfl (lv_at hl 1 rfl) ?_
  refine lv_iadd hx hb dX2_addNow_17 ?_
  refine lv_iconst (v := 0) hx hb dX2_addNow_18 (by decide) ?_
  obtain ⟨c_2, hE⟩ := og hE
  obtain ⟨z_2, ez_2, hE⟩ := on hE
  refine tM_0 hC hP hS c_2 ez_2 dX2_addNow_19 (fun H locs hP hS => ?_)
  obtain rfl := Option.some.inj hE
  exact m_vret hC hP hS dX2_addNow_20
def fX2_add (k : Nat) (z : MS) (x1 : Int32) : Option (Int32 × MS) := (fX2_isPlace x1).bind fun r_1 => if r_1 = 0 then (some ((0 : Int32), z)) else (if ib ((9 : Int32) + x1) 3205 then none else (if (z.2.2.1 0 ((9 : Int32) + x1).toNatClampNeg) = 0 then ((fX2_keep k z ).bind fun r_5 => (fX2_addNow r_5 x1).bind fun r_6 => some ((1 : Int32), r_6)) else (some ((0 : Int32), z))))
set_option maxHeartbeats 1000000 in
theorem wX2_add {l : Launch} {E : ME} (k : Nat) (z : MS) (x1 : Int32) (y : Int32 × MS) (hE : fX2_add k z x1 = some y) : mM l yX2_add (ws_ yX2_add cX2_add 2 (some .boolean)) rmX2_add E z [.int x1] (some (.int y.1)) y.2 := by
  refine m_met (by decide) rfl (Nat.le_of_ble_eq_true rfl) (fun p e s m args below meth c hC => ?_)
  intro H locs ls hP hS hl
  have hx := hC.1
  have hb := hC.2.1
  have hown := hC.2.2.2.2.2.1
  have hts := hC.2.2.2.2.2.2.1
  have hl : lv_has ls 2 [(0, .ref (E.2.2.2.1 0)), (1, .int x1)] := hl
  unfold fX2_add at hE
  refine lv_iload_n hx hb dX2_add_0 rfl (lv_at hl 1 rfl) ?_
  obtain ⟨r_1, h_1, hE⟩ := ob hE
  refine s_calli [.int x1] hC.sC hl.1 (wX2_isPlace x1 r_1 h_1) (va_cwS 1 hts lkX2_73 rfl rfl rfl cdX2_isPlace ⟨Nat.le_of_ble_eq_true rfl, Nat.le_of_ble_eq_true rfl⟩) rfl rfl (lv_room (Nat.le_of_ble_eq_true rfl)) ⟨Nat.zero_le _, Nat.zero_le _⟩ dX2_add_1 ?_
  refine lv_if_eq (tgt := 19) hx hb dX2_add_4 (by decide) (fun c_2 => ?_) (fun c_2 => ?_)
  · have hE := ip c_2 hE
    refine lv_iconst (v := 0) hx hb dX2_add_19 (by decide) ?_
    obtain rfl := Option.some.inj hE
    exact m_zret (v := (0 : Int32)) hC hP hS (by decide) dX2_add_20
  · have hE := iq c_2 hE
    refine lv_aload_n hx hb dX2_add_7 rfl (lv_at hl 0 rfl) ?_
    refine gM_7 hC hP dX2_add_8 ?_
    refine lv_bipush (v := 9) hx hb dX2_add_11 (by decide) ?_
    refine lv_iload_n hx hb dX2_add_13 rfl (lv_at hl 1 rfl) ?_
    refine lv_iadd hx hb dX2_add_14 ?_
    obtain ⟨c_3, hE⟩ := og hE
    refine aM_0 hC hP c_3 dX2_add_15 ?_
    refine lv_if_eq (tgt := 21) hx hb dX2_add_16 (by decide) (fun c_4 => ?_) (fun c_4 => ?_)
    · have hE := ip c_4 hE
      refine lv_aload_n hx hb dX2_add_21 rfl (lv_at hl 0 rfl) ?_
      obtain ⟨r_5, h_5, hE⟩ := ob hE
      refine m_callv [] hC hP hS hl.1 (wX2_keep k z  r_5 h_5) (cwV 0 hts lkX2_328 rfl rfl rfl cdX2_keep ⟨Nat.le_of_ble_eq_true rfl, Nat.le_of_ble_eq_true rfl⟩) rfl rfl (lv_room (Nat.le_of_ble_eq_true rfl)) dX2_add_22 (fun H locs hP hS => ?_)
      refine lv_aload_n hx hb dX2_add_25 rfl (lv_at hl 0 rfl) ?_
      refine lv_iload_n hx hb dX2_add_26 rfl (lv_at hl 1 rfl) ?_
      obtain ⟨r_6, h_6, hE⟩ := ob hE
      refine m_callv [.int x1] hC hP hS hl.1 (wX2_addNow r_5 x1 r_6 h_6) (cwV 1 hts lkX2_331 rfl rfl rfl cdX2_addNow ⟨Nat.le_of_ble_eq_true rfl, Nat.le_of_ble_eq_true rfl⟩) rfl rfl (lv_room (Nat.le_of_ble_eq_true rfl)) dX2_add_27 (fun H locs hP hS => ?_)
      refine lv_iconst (v := 1) hx hb dX2_add_30 (by decide) ?_
      obtain rfl := Option.some.inj hE
      exact m_zret (v := (1 : Int32)) hC hP hS (by decide) dX2_add_31
    · have hE := iq c_4 hE
      refine lv_iconst (v := 0) hx hb dX2_add_19 (by decide) ?_
      obtain rfl := Option.some.inj hE
      exact m_zret (v := (0 : Int32)) hC hP hS (by decide) dX2_add_20
def fX2_paintsOf (k : Nat) (z : MS) (x1 : Int32) : Option (Int32 × MS) := (fX2_name z x1).bind fun r_1 => (fX2_says k r_1 (r_1.2.2.1 0 (2 : Int32).toNatClampNeg) (1 : Int32) (9 : Int32)).bind fun r_3 => some (r_3.1, r_3.2)
set_option maxHeartbeats 1000000 in
theorem wX2_paintsOf {l : Launch} {E : ME} (k : Nat) (z : MS) (x1 : Int32) (y : Int32 × MS) (hE : fX2_paintsOf k z x1 = some y) : mM l yX2_paintsOf (ws_ yX2_paintsOf cX2_paintsOf 2 (some .int)) rmX2_paintsOf E z [.int x1] (some (.int y.1)) y.2 := by
  refine m_met (by decide) rfl (Nat.le_of_ble_eq_true rfl) (fun p e s m args below meth c hC => ?_)
  intro H locs ls hP hS hl
  have hx := hC.1
  have hb := hC.2.1
  have hown := hC.2.2.2.2.2.1
  have hts := hC.2.2.2.2.2.2.1
  have hl : lv_has ls 2 [(0, .ref (E.2.2.2.1 0)), (1, .int x1)] := hl
  unfold fX2_paintsOf at hE
  refine lv_aload_n hx hb dX2_paintsOf_0 rfl (lv_at hl 0 rfl) ?_
  refine lv_iload_n hx hb dX2_paintsOf_1 rfl (lv_at hl 1 rfl) ?_
  obtain ⟨r_1, h_1, hE⟩ := ob hE
  refine m_callv [.int x1] hC hP hS hl.1 (wX2_name z x1 r_1 h_1) (cwV 1 hts lkX2_285 rfl rfl rfl cdX2_name ⟨Nat.le_of_ble_eq_true rfl, Nat.le_of_ble_eq_true rfl⟩) rfl rfl (lv_room (Nat.le_of_ble_eq_true rfl)) dX2_paintsOf_2 (fun H locs hP hS => ?_)
  refine lv_aload_n hx hb dX2_paintsOf_5 rfl (lv_at hl 0 rfl) ?_
  refine lv_aload_n hx hb dX2_paintsOf_6 rfl (lv_at hl 0 rfl) ?_
  refine gM_7 hC hP dX2_paintsOf_7 ?_
  refine lv_iconst (v := 2) hx hb dX2_paintsOf_10 (by decide) ?_
  refine aM_0 hC hP (i := (2 : Int32)) (by decide) dX2_paintsOf_11 ?_
  refine lv_iconst (v := 1) hx hb dX2_paintsOf_12 (by decide) ?_
  refine lv_bipush (v := 9) hx hb dX2_paintsOf_13 (by decide) ?_
  obtain ⟨r_3, h_3, hE⟩ := ob hE
  refine m_calli [.int (r_1.2.2.1 0 (2 : Int32).toNatClampNeg), .int (1 : Int32), .int (9 : Int32)] hC hP hS hl.1 (wX2_says k r_1 (r_1.2.2.1 0 (2 : Int32).toNatClampNeg) (1 : Int32) (9 : Int32) r_3 h_3) (cwV 3 hts lkX2_288 rfl rfl rfl cdX2_says ⟨Nat.le_of_ble_eq_true rfl, Nat.le_of_ble_eq_true rfl⟩) rfl rfl (lv_room (Nat.le_of_ble_eq_true rfl)) dX2_paintsOf_15 (fun H locs hP hS => ?_)
  obtain rfl := Option.some.inj hE
  exact m_iret hC hP hS dX2_paintsOf_18
def fX2_pass_B2 (k : Nat)  (a : Int32 × MS) : Option ((Int32 × MS) ⊕ MS) := if (a.2.2.2.1 0 (0 : Int32).toNatClampNeg) ≤ a.1 then (some (.inr a.2)) else (if ib ((69 : Int32) + a.1) 3205 then none else (if (a.2.2.2.1 0 ((69 : Int32) + a.1).toNatClampNeg) = (-1 : Int32) then ((fX2_drawnBy a.2 (30 : Int32)).bind fun r_5 => (fX2_runNow k r_5.2 a.1 r_5.1).bind fun r_6 => some (.inl ((a.1 + (1 : Int32)), r_6))) else (some (.inl ((a.1 + (1 : Int32)), a.2)))))
set_option maxHeartbeats 1000000 in
theorem wX2_pass_B2 {p : Program} {l : Launch} {e : Env} {s : State} {m : MethodId} {args : Array Value} {below : List Frame} {meth : Method} {c : Code} {E : ME} {Q : State → Prop} (k : Nat)  (hC : mC E cX2_pass 2 none p s m args meth c) (a : Int32 × MS) (y : (Int32 × MS) ⊕ MS) (hE : fX2_pass_B2 k  a = some y) (hc : ∀ a : Int32 × MS, y = .inl a → mW p l e rmX2_pass s m args below meth c E 2 Q 2 [(0, .ref (E.2.2.2.1 0)), (1, .int a.1)] [] a.2) (hx1 : ∀ b : MS, y = .inr b → mW p l e rmX2_pass s m args below meth c E 2 Q 42 [(0, .ref (E.2.2.2.1 0))] [] b) : mW p l e rmX2_pass s m args below meth c E 2 Q 2 [(0, .ref (E.2.2.2.1 0)), (1, .int a.1)] [] a.2 := by
  intro H locs ls hP hS hl
  have hx := hC.1
  have hb := hC.2.1
  have hown := hC.2.2.2.2.2.1
  have hts := hC.2.2.2.2.2.2.1
  unfold fX2_pass_B2 at hE
  refine lv_iload_n hx hb dX2_pass_2 rfl (lv_at hl 1 rfl) ?_
  refine lv_aload_n hx hb dX2_pass_3 rfl (lv_at hl 0 rfl) ?_
  refine gM_7 hC hP dX2_pass_4 ?_
  refine lv_iconst (v := 0) hx hb dX2_pass_7 (by decide) ?_
  refine aM_0 hC hP (i := (0 : Int32)) (by decide) dX2_pass_8 ?_
  refine lv_icmp_ge (tgt := 42) hx hb dX2_pass_9 (by decide) (fun c_2 => ?_) (fun c_2 => ?_)
  · have hE := ip c_2 hE
    exact hx1 _ (Option.some.inj hE).symm H locs ls hP hS (lv_sub hl [0] rfl)
  · have hE := iq c_2 hE
    refine lv_aload_n hx hb dX2_pass_12 rfl (lv_at hl 0 rfl) ?_
    refine gM_7 hC hP dX2_pass_13 ?_
    refine lv_bipush (v := 69) hx hb dX2_pass_16 (by decide) ?_
    refine lv_iload_n hx hb dX2_pass_18 rfl (lv_at hl 1 rfl) ?_
    refine lv_iadd hx hb dX2_pass_19 ?_
    obtain ⟨c_3, hE⟩ := og hE
    refine aM_0 hC hP c_3 dX2_pass_20 ?_
    refine lv_iconst (v := -1) hx hb dX2_pass_21 (by decide) ?_
    refine lv_icmp_ne (tgt := 36) hx hb dX2_pass_22 (by decide) (fun c_4 => ?_) (fun c_4 => ?_)
    · have hE := iq c_4 hE
      refine lv_iinc (v := (a.1 + (1 : Int32))) (lv' := [(1, .int (a.1 + (1 : Int32))), (0, .ref (E.2.2.2.1 0))]) hx hb dX2_pass_36 hl (k := 1) rfl rfl (Nat.le_of_ble_eq_true rfl) rfl (fun ls hl => ?_)
      refine lv_goto (tgt := 2) hx hb dX2_pass_39 (by decide) ?_
      exact hc _ (Option.some.inj hE).symm H locs ls hP hS (lv_sub hl [1, 0] rfl)
    · have hE := ip c_4 hE
      refine lv_aload_n hx hb dX2_pass_25 rfl (lv_at hl 0 rfl) ?_
      refine lv_iload_n hx hb dX2_pass_26 rfl (lv_at hl 1 rfl) ?_
      refine lv_aload_n hx hb dX2_pass_27 rfl (lv_at hl 0 rfl) ?_
      refine lv_bipush (v := 30) hx hb dX2_pass_28 (by decide) ?_
      obtain ⟨r_5, h_5, hE⟩ := ob hE
      refine m_calli [.int (30 : Int32)] hC hP hS hl.1 (wX2_drawnBy a.2 (30 : Int32) r_5 h_5) (cwV 1 hts lkX2_307 rfl rfl rfl cdX2_drawnBy ⟨Nat.le_of_ble_eq_true rfl, Nat.le_of_ble_eq_true rfl⟩) rfl rfl (lv_room (Nat.le_of_ble_eq_true rfl)) dX2_pass_30 (fun H locs hP hS => ?_)
      obtain ⟨r_6, h_6, hE⟩ := ob hE
      refine m_callv [.int a.1, .int r_5.1] hC hP hS hl.1 (wX2_runNow k r_5.2 a.1 r_5.1 r_6 h_6) (cwV 2 hts lkX2_316 rfl rfl rfl cdX2_runNow ⟨Nat.le_of_ble_eq_true rfl, Nat.le_of_ble_eq_true rfl⟩) rfl rfl (lv_room (Nat.le_of_ble_eq_true rfl)) dX2_pass_33 (fun H locs hP hS => ?_)
      refine lv_iinc (v := (a.1 + (1 : Int32))) (lv' := [(1, .int (a.1 + (1 : Int32))), (0, .ref (E.2.2.2.1 0))]) hx hb dX2_pass_36 hl (k := 1) rfl rfl (Nat.le_of_ble_eq_true rfl) rfl (fun ls hl => ?_)
      refine lv_goto (tgt := 2) hx hb dX2_pass_39 (by decide) ?_
      exact hc _ (Option.some.inj hE).symm H locs ls hP hS (lv_sub hl [1, 0] rfl)
def fX2_pass_B44 (k : Nat)  (a : Int32 × MS) : Option ((Int32 × MS) ⊕ MS) := if (30 : Int32) ≤ a.1 then (some (.inr a.2)) else ((fX2_isBar a.2 a.1).bind fun r_9 => if r_9 = 0 then (some (.inl ((a.1 + (1 : Int32)), a.2))) else (if ib ((39 : Int32) + a.1) 3205 then none else ((fX2_paintsOf k a.2 a.1).bind fun r_12 => (fX2_held ((a.2.2.2.1 0 ((39 : Int32) + a.1).toNatClampNeg) + r_12.1).toInt64 (0 : Int32) (9 : Int32)).bind fun r_13 => if ib ((39 : Int32) + a.1) 3205 then none else (nm (mA r_12.2 0 (upd (r_12.2.2.2.1 0) ((39 : Int32) + a.1).toNatClampNeg r_13)) fun z_14 => some (.inl ((a.1 + (1 : Int32)), z_14))))))
set_option maxHeartbeats 1000000 in
theorem wX2_pass_B44 {p : Program} {l : Launch} {e : Env} {s : State} {m : MethodId} {args : Array Value} {below : List Frame} {meth : Method} {c : Code} {E : ME} {Q : State → Prop} (k : Nat)  (hC : mC E cX2_pass 2 none p s m args meth c) (a : Int32 × MS) (y : (Int32 × MS) ⊕ MS) (hE : fX2_pass_B44 k  a = some y) (hc : ∀ a : Int32 × MS, y = .inl a → mW p l e rmX2_pass s m args below meth c E 2 Q 44 [(0, .ref (E.2.2.2.1 0)), (1, .int a.1)] [] a.2) (hx1 : ∀ b : MS, y = .inr b → mW p l e rmX2_pass s m args below meth c E 2 Q 95 [(0, .ref (E.2.2.2.1 0))] [] b) : mW p l e rmX2_pass s m args below meth c E 2 Q 44 [(0, .ref (E.2.2.2.1 0)), (1, .int a.1)] [] a.2 := by
  intro H locs ls hP hS hl
  have hx := hC.1
  have hb := hC.2.1
  have hown := hC.2.2.2.2.2.1
  have hts := hC.2.2.2.2.2.2.1
  unfold fX2_pass_B44 at hE
  refine lv_iload_n hx hb dX2_pass_44 rfl (lv_at hl 1 rfl) ?_
  refine lv_bipush (v := 30) hx hb dX2_pass_45 (by decide) ?_
  refine lv_icmp_ge (tgt := 95) hx hb dX2_pass_47 (by decide) (fun c_8 => ?_) (fun c_8 => ?_)
  · have hE := ip c_8 hE
    exact hx1 _ (Option.some.inj hE).symm H locs ls hP hS (lv_sub hl [0] rfl)
  · have hE := iq c_8 hE
    refine lv_aload_n hx hb dX2_pass_50 rfl (lv_at hl 0 rfl) ?_
    refine lv_iload_n hx hb dX2_pass_51 rfl (lv_at hl 1 rfl) ?_
    obtain ⟨r_9, h_9, hE⟩ := ob hE
    refine m_calli [.int a.1] hC hP hS hl.1 (wX2_isBar a.2 a.1 r_9 h_9) (cwV 1 hts lkX2_300 rfl rfl rfl cdX2_isBar ⟨Nat.le_of_ble_eq_true rfl, Nat.le_of_ble_eq_true rfl⟩) rfl rfl (lv_room (Nat.le_of_ble_eq_true rfl)) dX2_pass_52 (fun H locs hP hS => ?_)
    refine lv_if_eq (tgt := 89) hx hb dX2_pass_55 (by decide) (fun c_10 => ?_) (fun c_10 => ?_)
    · have hE := ip c_10 hE
      refine lv_iinc (v := (a.1 + (1 : Int32))) (lv' := [(1, .int (a.1 + (1 : Int32))), (0, .ref (E.2.2.2.1 0))]) hx hb dX2_pass_89 hl (k := 1) rfl rfl (Nat.le_of_ble_eq_true rfl) rfl (fun ls hl => ?_)
      refine lv_goto (tgt := 44) hx hb dX2_pass_92 (by decide) ?_
      exact hc _ (Option.some.inj hE).symm H locs ls hP hS (lv_sub hl [1, 0] rfl)
    · have hE := iq c_10 hE
      refine lv_aload_n hx hb dX2_pass_58 rfl (lv_at hl 0 rfl) ?_
      refine gM_7 hC hP dX2_pass_59 ?_
      refine lv_bipush (v := 39) hx hb dX2_pass_62 (by decide) ?_
      refine lv_iload_n hx hb dX2_pass_64 rfl (lv_at hl 1 rfl) ?_
      refine lv_iadd hx hb dX2_pass_65 ?_
      refine lv_aload_n hx hb dX2_pass_66 rfl (lv_at hl 0 rfl) ?_
      refine gM_7 hC hP dX2_pass_67 ?_
      refine lv_bipush (v := 39) hx hb dX2_pass_70 (by decide) ?_
      refine lv_iload_n hx hb dX2_pass_72 rfl (lv_at hl 1 rfl) ?_
      refine lv_iadd hx hb dX2_pass_73 ?_
      obtain ⟨c_11, hE⟩ := og hE
      refine aM_0 hC hP c_11 dX2_pass_74 ?_
      refine lv_aload_n hx hb dX2_pass_75 rfl (lv_at hl 0 rfl) ?_
      refine lv_iload_n hx hb dX2_pass_76 rfl (lv_at hl 1 rfl) ?_
      obtain ⟨r_12, h_12, hE⟩ := ob hE
      refine m_calli [.int a.1] hC hP hS hl.1 (wX2_paintsOf k a.2 a.1 r_12 h_12) (cwV 1 hts lkX2_319 rfl rfl rfl cdX2_paintsOf ⟨Nat.le_of_ble_eq_true rfl, Nat.le_of_ble_eq_true rfl⟩) rfl rfl (lv_room (Nat.le_of_ble_eq_true rfl)) dX2_pass_77 (fun H locs hP hS => ?_)
      refine lv_iadd hx hb dX2_pass_80 ?_
      refine lv_i2l hx hb dX2_pass_81 rfl ?_
      refine lv_iconst (v := 0) hx hb dX2_pass_82 (by decide) ?_
      refine lv_bipush (v := 9) hx hb dX2_pass_83 (by decide) ?_
      obtain ⟨r_13, h_13, hE⟩ := ob hE
      refine s_calli [.long ((a.2.2.2.1 0 ((39 : Int32) + a.1).toNatClampNeg) + r_12.1).toInt64, .int (0 : Int32), .int (9 : Int32)] hC.sC hl.1 (wX2_held ((a.2.2.2.1 0 ((39 : Int32) + a.1).toNatClampNeg) + r_12.1).toInt64 (0 : Int32) (9 : Int32) r_13 h_13) (va_cwS 3 hts lkX2_281 rfl rfl rfl cdX2_held ⟨Nat.le_of_ble_eq_true rfl, Nat.le_of_ble_eq_true rfl⟩) rfl rfl (lv_room (Nat.le_of_ble_eq_true rfl)) ⟨Nat.zero_le _, Nat.zero_le _⟩ dX2_pass_85 ?_
      obtain ⟨c_14, hE⟩ := og hE
      obtain ⟨z_14, ez_14, hE⟩ := on hE
      refine tM_0 hC hP hS c_14 ez_14 dX2_pass_88 (fun H locs hP hS => ?_)
      refine lv_iinc (v := (a.1 + (1 : Int32))) (lv' := [(1, .int (a.1 + (1 : Int32))), (0, .ref (E.2.2.2.1 0))]) hx hb dX2_pass_89 hl (k := 1) rfl rfl (Nat.le_of_ble_eq_true rfl) rfl (fun ls hl => ?_)
      refine lv_goto (tgt := 44) hx hb dX2_pass_92 (by decide) ?_
      exact hc _ (Option.some.inj hE).symm H locs ls hP hS (lv_sub hl [1, 0] rfl)
def fX2_pass (k : Nat) (z : MS)  : Option MS := (lpo (fX2_pass_B2 k ) k ((0 : Int32), z)).bind fun x_7 => (lpo (fX2_pass_B44 k ) k ((0 : Int32), x_7)).bind fun x_15 => nm (mA x_15 0 (upd (x_15.2.2.1 0) (6 : Int32).toNatClampNeg ((x_15.2.2.1 0 (6 : Int32).toNatClampNeg) + (1 : Int32)))) fun z_17 => some z_17
set_option maxHeartbeats 1000000 in
theorem wX2_pass {l : Launch} {E : ME} (k : Nat) (z : MS)  (y : MS) (hE : fX2_pass k z  = some y) : mM l yX2_pass (ws_ yX2_pass cX2_pass 2 none) rmX2_pass E z [] none y := by
  refine m_met (by decide) rfl (Nat.le_of_ble_eq_true rfl) (fun p e s m args below meth c hC => ?_)
  intro H locs ls hP hS hl
  have hx := hC.1
  have hb := hC.2.1
  have hown := hC.2.2.2.2.2.1
  have hts := hC.2.2.2.2.2.2.1
  have hl : lv_has ls 2 [(0, .ref (E.2.2.2.1 0))] := hl
  unfold fX2_pass at hE
  refine lv_iconst (v := 0) hx hb dX2_pass_0 (by decide) ?_
  refine lv_istore_n (lv' := [(1, .int (0 : Int32)), (0, .ref (E.2.2.2.1 0))]) hx hb dX2_pass_1 rfl hl (Nat.le_of_ble_eq_true rfl) rfl (fun ls hl => ?_)
  obtain ⟨x_7, h_7, hE⟩ := ob hE
  refine lpo_walk (fun p_7 : Int32 × MS => mW p l e rmX2_pass s m args below meth c E 2 (mQ E below args s none y) 2 [(0, .ref (E.2.2.2.1 0)), (1, .int p_7.1)] [] p_7.2) (fun q_7 : MS => mW p l e rmX2_pass s m args below meth c E 2 (mQ E below args s none y) 42 [(0, .ref (E.2.2.2.1 0))] [] q_7) (fun a_7 y_7 hB_7 hc_7 hx_7 => wX2_pass_B2 k  hC a_7 y_7 hB_7 hc_7 hx_7) _ _ x_7 h_7 ?_ H locs ls hP hS (lv_sub hl [1, 0] rfl)
  intro H locs ls hP hS hl
  refine lv_iconst (v := 0) hx hb dX2_pass_42 (by decide) ?_
  refine lv_istore_n (lv' := [(1, .int (0 : Int32)), (0, .ref (E.2.2.2.1 0))]) hx hb dX2_pass_43 rfl hl (Nat.le_of_ble_eq_true rfl) rfl (fun ls hl => ?_)
  obtain ⟨x_15, h_15, hE⟩ := ob hE
  refine lpo_walk (fun p_15 : Int32 × MS => mW p l e rmX2_pass s m args below meth c E 2 (mQ E below args s none y) 44 [(0, .ref (E.2.2.2.1 0)), (1, .int p_15.1)] [] p_15.2) (fun q_15 : MS => mW p l e rmX2_pass s m args below meth c E 2 (mQ E below args s none y) 95 [(0, .ref (E.2.2.2.1 0))] [] q_15) (fun a_15 y_15 hB_15 hc_15 hx_15 => wX2_pass_B44 k  hC a_15 y_15 hB_15 hc_15 hx_15) _ _ x_15 h_15 ?_ H locs ls hP hS (lv_sub hl [1, 0] rfl)
  intro H locs ls hP hS hl
  refine lv_aload_n hx hb dX2_pass_95 rfl (lv_at hl 0 rfl) ?_
  refine gM_7 hC hP dX2_pass_96 ?_
  refine lv_bipush (v := 6) hx hb dX2_pass_99 (by decide) ?_
  refine lv_dup2_11 hx hb dX2_pass_101 rfl rfl ?_
  refine aM_0 hC hP (i := (6 : Int32)) (by decide) dX2_pass_102 ?_
  refine lv_iconst (v := 1) hx hb dX2_pass_103 (by decide) ?_
  refine lv_iadd hx hb dX2_pass_104 ?_
  obtain ⟨z_17, ez_17, hE⟩ := on hE
  refine tM_0 hC hP hS (i := (6 : Int32)) (by decide) ez_17 dX2_pass_105 (fun H locs hP hS => ?_)
  obtain rfl := Option.some.inj hE
  exact m_vret hC hP hS dX2_pass_106
def fX2_arePassed_B7 (k : Nat) (v1 : Int32) (a : Int32 × MS) : Option ((Int32 × MS) ⊕ (MS ⊕ MS)) := if v1 ≤ a.1 then (some (.inr (.inl a.2))) else (if (a.2.2.2.1 0 (6 : Int32).toNatClampNeg) = (9999 : Int32) then (some (.inr (.inr a.2))) else ((fX2_keep k a.2 ).bind fun r_5 => (fX2_pass k r_5 ).bind fun r_6 => some (.inl ((a.1 + (1 : Int32)), r_6))))
set_option maxHeartbeats 1000000 in
theorem wX2_arePassed_B7 {p : Program} {l : Launch} {e : Env} {s : State} {m : MethodId} {args : Array Value} {below : List Frame} {meth : Method} {c : Code} {E : ME} {Q : State → Prop} (k : Nat) (v1 : Int32) (hC : mC E cX2_arePassed 3 (some .boolean) p s m args meth c) (a : Int32 × MS) (y : (Int32 × MS) ⊕ (MS ⊕ MS)) (hE : fX2_arePassed_B7 k v1 a = some y) (hc : ∀ a : Int32 × MS, y = .inl a → mW p l e rmX2_arePassed s m args below meth c E 3 Q 7 [(0, .ref (E.2.2.2.1 0)), (1, .int v1), (2, .int a.1)] [] a.2) (hx1 : ∀ b : MS, y = .inr (.inl b) → mW p l e rmX2_arePassed s m args below meth c E 3 Q 41 [] [] b) (hx2 : ∀ b : MS, y = .inr (.inr b) → mW p l e rmX2_arePassed s m args below meth c E 3 Q 25 [] [] b) : mW p l e rmX2_arePassed s m args below meth c E 3 Q 7 [(0, .ref (E.2.2.2.1 0)), (1, .int v1), (2, .int a.1)] [] a.2 := by
  intro H locs ls hP hS hl
  have hx := hC.1
  have hb := hC.2.1
  have hown := hC.2.2.2.2.2.1
  have hts := hC.2.2.2.2.2.2.1
  unfold fX2_arePassed_B7 at hE
  refine lv_iload_n hx hb dX2_arePassed_7 rfl (lv_at hl 2 rfl) ?_
  refine lv_iload_n hx hb dX2_arePassed_8 rfl (lv_at hl 1 rfl) ?_
  refine lv_icmp_ge (tgt := 41) hx hb dX2_arePassed_9 (by decide) (fun c_2 => ?_) (fun c_2 => ?_)
  · have hE := ip c_2 hE
    exact hx1 _ (Option.some.inj hE).symm H locs ls hP hS (lv_sub hl [] rfl)
  · have hE := iq c_2 hE
    refine lv_aload_n hx hb dX2_arePassed_12 rfl (lv_at hl 0 rfl) ?_
    refine gM_7 hC hP dX2_arePassed_13 ?_
    refine lv_bipush (v := 6) hx hb dX2_arePassed_16 (by decide) ?_
    refine aM_0 hC hP (i := (6 : Int32)) (by decide) dX2_arePassed_18 ?_
    refine lv_sipush (v := 9999) hx hb dX2_arePassed_19 (by decide) ?_
    refine lv_icmp_ne (tgt := 27) hx hb dX2_arePassed_22 (by decide) (fun c_4 => ?_) (fun c_4 => ?_)
    · have hE := iq c_4 hE
      refine lv_aload_n hx hb dX2_arePassed_27 rfl (lv_at hl 0 rfl) ?_
      obtain ⟨r_5, h_5, hE⟩ := ob hE
      refine m_callv [] hC hP hS hl.1 (wX2_keep k a.2  r_5 h_5) (cwV 0 hts lkX2_328 rfl rfl rfl cdX2_keep ⟨Nat.le_of_ble_eq_true rfl, Nat.le_of_ble_eq_true rfl⟩) rfl rfl (lv_room (Nat.le_of_ble_eq_true rfl)) dX2_arePassed_28 (fun H locs hP hS => ?_)
      refine lv_aload_n hx hb dX2_arePassed_31 rfl (lv_at hl 0 rfl) ?_
      obtain ⟨r_6, h_6, hE⟩ := ob hE
      refine m_callv [] hC hP hS hl.1 (wX2_pass k r_5  r_6 h_6) (cwV 0 hts lkX2_334 rfl rfl rfl cdX2_pass ⟨Nat.le_of_ble_eq_true rfl, Nat.le_of_ble_eq_true rfl⟩) rfl rfl (lv_room (Nat.le_of_ble_eq_true rfl)) dX2_arePassed_32 (fun H locs hP hS => ?_)
      refine lv_iinc (v := (a.1 + (1 : Int32))) (lv' := [(2, .int (a.1 + (1 : Int32))), (0, .ref (E.2.2.2.1 0)), (1, .int v1)]) hx hb dX2_arePassed_35 hl (k := 2) rfl rfl (Nat.le_of_ble_eq_true rfl) rfl (fun ls hl => ?_)
      refine lv_goto (tgt := 7) hx hb dX2_arePassed_38 (by decide) ?_
      exact hc _ (Option.some.inj hE).symm H locs ls hP hS (lv_sub hl [1, 2, 0] rfl)
    · have hE := ip c_4 hE
      exact hx2 _ (Option.some.inj hE).symm H locs ls hP hS (lv_sub hl [] rfl)
def fX2_arePassed (k : Nat) (z : MS) (x1 : Int32) : Option (Int32 × MS) := nm (mI z 24 (0 : Int32)) fun z_1 => (lpo (fX2_arePassed_B7 k x1) k ((0 : Int32), z_1)).bind fun x_7 => (Sum.elim (fun t_7 : MS => some ((1 : Int32), t_7)) (fun t_7 : MS => some ((0 : Int32), t_7))) x_7
set_option maxHeartbeats 1000000 in
theorem wX2_arePassed {l : Launch} {E : ME} (k : Nat) (z : MS) (x1 : Int32) (y : Int32 × MS) (hE : fX2_arePassed k z x1 = some y) : mM l yX2_arePassed (ws_ yX2_arePassed cX2_arePassed 3 (some .boolean)) rmX2_arePassed E z [.int x1] (some (.int y.1)) y.2 := by
  refine m_met (by decide) rfl (Nat.le_of_ble_eq_true rfl) (fun p e s m args below meth c hC => ?_)
  intro H locs ls hP hS hl
  have hx := hC.1
  have hb := hC.2.1
  have hown := hC.2.2.2.2.2.1
  have hts := hC.2.2.2.2.2.2.1
  have hl : lv_has ls 3 [(0, .ref (E.2.2.2.1 0)), (1, .int x1)] := hl
  unfold fX2_arePassed at hE
  refine lv_aload_n hx hb dX2_arePassed_0 rfl (lv_at hl 0 rfl) ?_
  refine lv_iconst (v := 0) hx hb dX2_arePassed_1 (by decide) ?_
  obtain ⟨z_1, ez_1, hE⟩ := on hE
  refine pM_310 hC hP hS ez_1 dX2_arePassed_2 (fun H locs hP hS => ?_)
  refine lv_iconst (v := 0) hx hb dX2_arePassed_5 (by decide) ?_
  refine lv_istore_n (lv' := [(2, .int (0 : Int32)), (0, .ref (E.2.2.2.1 0)), (1, .int x1)]) hx hb dX2_arePassed_6 rfl hl (Nat.le_of_ble_eq_true rfl) rfl (fun ls hl => ?_)
  obtain ⟨x_7, h_7, hE⟩ := ob hE
  refine lpo_walk (fun p_7 : Int32 × MS => mW p l e rmX2_arePassed s m args below meth c E 3 (mQ E below args s (some (.int y.1)) y.2) 7 [(0, .ref (E.2.2.2.1 0)), (1, .int x1), (2, .int p_7.1)] [] p_7.2) (fun q_7 : (MS ⊕ MS) => (∀ t_7 : MS, q_7 = (.inl t_7) → mW p l e rmX2_arePassed s m args below meth c E 3 (mQ E below args s (some (.int y.1)) y.2) 41 [] [] t_7) ∧ (∀ t_7 : MS, q_7 = (.inr t_7) → mW p l e rmX2_arePassed s m args below meth c E 3 (mQ E below args s (some (.int y.1)) y.2) 25 [] [] t_7)) (fun a_7 y_7 hB_7 hc_7 hx_7 => wX2_arePassed_B7 k x1 hC a_7 y_7 hB_7 hc_7 (fun t_7 e_7 => (hx_7 _ e_7).1 t_7 rfl) (fun t_7 e_7 => (hx_7 _ e_7).2 t_7 rfl)) _ _ x_7 h_7 ?_ H locs ls hP hS (lv_sub hl [1, 2, 0] rfl)
  refine ⟨?_, ?_⟩
  · intro t_7 e_7
    subst e_7
    have hE := oel hE
    intro H locs ls hP hS hl
    refine lv_iconst (v := 1) hx hb dX2_arePassed_41 (by decide) ?_
    obtain rfl := Option.some.inj hE
    exact m_zret (v := (1 : Int32)) hC hP hS (by decide) dX2_arePassed_42
  · intro t_7 e_7
    subst e_7
    have hE := oer hE
    intro H locs ls hP hS hl
    refine lv_iconst (v := 0) hx hb dX2_arePassed_25 (by decide) ?_
    obtain rfl := Option.some.inj hE
    exact m_zret (v := (0 : Int32)) hC hP hS (by decide) dX2_arePassed_26
def fX2_year (k : Nat) (z : MS) (x1 : Int32) : Option (Int32 × MS) := (fX2_isIn x1 (1 : Int32) (60 : Int32)).bind fun r_1 => if r_1 = 0 then (some ((-1 : Int32), z)) else (if (9999 : Int32) < ((z.2.2.1 0 (6 : Int32).toNatClampNeg) + x1) then (some ((-1 : Int32), z)) else ((fX2_arePassed k z x1).bind fun r_5 => if r_5.1 = 0 then (some ((-1 : Int32), r_5.2)) else (some ((r_5.2.1 24), r_5.2))))
set_option maxHeartbeats 1000000 in
theorem wX2_year {l : Launch} {E : ME} (k : Nat) (z : MS) (x1 : Int32) (y : Int32 × MS) (hE : fX2_year k z x1 = some y) : mM l yX2_year (ws_ yX2_year cX2_year 2 (some .int)) rmX2_year E z [.int x1] (some (.int y.1)) y.2 := by
  refine m_met (by decide) rfl (Nat.le_of_ble_eq_true rfl) (fun p e s m args below meth c hC => ?_)
  intro H locs ls hP hS hl
  have hx := hC.1
  have hb := hC.2.1
  have hown := hC.2.2.2.2.2.1
  have hts := hC.2.2.2.2.2.2.1
  have hl : lv_has ls 2 [(0, .ref (E.2.2.2.1 0)), (1, .int x1)] := hl
  unfold fX2_year at hE
  refine lv_iload_n hx hb dX2_year_0 rfl (lv_at hl 1 rfl) ?_
  refine lv_iconst (v := 1) hx hb dX2_year_1 (by decide) ?_
  refine lv_bipush (v := 60) hx hb dX2_year_2 (by decide) ?_
  obtain ⟨r_1, h_1, hE⟩ := ob hE
  refine s_calli [.int x1, .int (1 : Int32), .int (60 : Int32)] hC.sC hl.1 (wX2_isIn x1 (1 : Int32) (60 : Int32) r_1 h_1) (va_cwS 3 hts lkX2_69 rfl rfl rfl cdX2_isIn ⟨Nat.le_of_ble_eq_true rfl, Nat.le_of_ble_eq_true rfl⟩) rfl rfl (lv_room (Nat.le_of_ble_eq_true rfl)) ⟨Nat.zero_le _, Nat.zero_le _⟩ dX2_year_4 ?_
  refine lv_if_eq (tgt := 40) hx hb dX2_year_7 (by decide) (fun c_2 => ?_) (fun c_2 => ?_)
  · have hE := ip c_2 hE
    refine lv_iconst (v := -1) hx hb dX2_year_40 (by decide) ?_
    obtain rfl := Option.some.inj hE
    exact m_iret hC hP hS dX2_year_41
  · have hE := iq c_2 hE
    refine lv_aload_n hx hb dX2_year_10 rfl (lv_at hl 0 rfl) ?_
    refine gM_7 hC hP dX2_year_11 ?_
    refine lv_bipush (v := 6) hx hb dX2_year_14 (by decide) ?_
    refine aM_0 hC hP (i := (6 : Int32)) (by decide) dX2_year_16 ?_
    refine lv_iload_n hx hb dX2_year_17 rfl (lv_at hl 1 rfl) ?_
    refine lv_iadd hx hb dX2_year_18 ?_
    refine lv_sipush (v := 9999) hx hb dX2_year_19 (by decide) ?_
    refine lv_icmp_gt (tgt := 40) hx hb dX2_year_22 (by decide) (fun c_4 => ?_) (fun c_4 => ?_)
    · have hE := ip c_4 hE
      refine lv_iconst (v := -1) hx hb dX2_year_40 (by decide) ?_
      obtain rfl := Option.some.inj hE
      exact m_iret hC hP hS dX2_year_41
    · have hE := iq c_4 hE
      refine lv_aload_n hx hb dX2_year_25 rfl (lv_at hl 0 rfl) ?_
      refine lv_iload_n hx hb dX2_year_26 rfl (lv_at hl 1 rfl) ?_
      obtain ⟨r_5, h_5, hE⟩ := ob hE
      refine m_calli [.int x1] hC hP hS hl.1 (wX2_arePassed k z x1 r_5 h_5) (cwV 1 hts lkX2_337 rfl rfl rfl cdX2_arePassed ⟨Nat.le_of_ble_eq_true rfl, Nat.le_of_ble_eq_true rfl⟩) rfl rfl (lv_room (Nat.le_of_ble_eq_true rfl)) dX2_year_27 (fun H locs hP hS => ?_)
      refine lv_if_eq (tgt := 40) hx hb dX2_year_30 (by decide) (fun c_6 => ?_) (fun c_6 => ?_)
      · have hE := ip c_6 hE
        refine lv_iconst (v := -1) hx hb dX2_year_40 (by decide) ?_
        obtain rfl := Option.some.inj hE
        exact m_iret hC hP hS dX2_year_41
      · have hE := iq c_6 hE
        refine lv_aload_n hx hb dX2_year_33 rfl (lv_at hl 0 rfl) ?_
        refine gM_310 hC hP dX2_year_34 ?_
        refine lv_goto (tgt := 41) hx hb dX2_year_37 (by decide) ?_
        obtain rfl := Option.some.inj hE
        exact m_iret hC hP hS dX2_year_41
def fX2_isPlayed (k : Nat) (z : MS) (x1 : Int32) : Option (Int32 × MS) := if ib (x1 + (1 : Int32)) 2724 then none else (if ib (x1 + (2 : Int32)) 2724 then none else (if ib x1 2724 then none else (if (z.2.2.1 2 x1.toNatClampNeg) = (2 : Int32) then ((fX2_bar k z (z.2.2.1 2 (x1 + (1 : Int32)).toNatClampNeg) (z.2.2.1 2 (x1 + (2 : Int32)).toNatClampNeg)).bind fun r_5 => if ¬ r_5.1 &&& 1 = r_5.1 then none else some (r_5.1, r_5.2)) else if (z.2.2.1 2 x1.toNatClampNeg) = (3 : Int32) then ((fX2_paint k z (z.2.2.1 2 (x1 + (2 : Int32)).toNatClampNeg) (z.2.2.1 2 (x1 + (1 : Int32)).toNatClampNeg)).bind fun r_7 => if ¬ r_7.1 &&& 1 = r_7.1 then none else some (r_7.1, r_7.2)) else if (z.2.2.1 2 x1.toNatClampNeg) = (4 : Int32) then ((fX2_child z (z.2.2.1 2 (x1 + (1 : Int32)).toNatClampNeg) (z.2.2.1 2 (x1 + (2 : Int32)).toNatClampNeg)).bind fun r_9 => if r_9.1 < 0 then (some ((0 : Int32), r_9.2)) else (some ((1 : Int32), r_9.2))) else if (z.2.2.1 2 x1.toNatClampNeg) = (5 : Int32) then ((fX2_run k z (z.2.2.1 2 (x1 + (1 : Int32)).toNatClampNeg) (z.2.2.1 2 (x1 + (2 : Int32)).toNatClampNeg)).bind fun r_11 => if r_11.1 < 0 then (some ((0 : Int32), r_11.2)) else (some ((1 : Int32), r_11.2))) else if (z.2.2.1 2 x1.toNatClampNeg) = (6 : Int32) then ((fX2_cut k z (z.2.2.1 2 (x1 + (1 : Int32)).toNatClampNeg)).bind fun r_13 => if ¬ r_13.1 &&& 1 = r_13.1 then none else some (r_13.1, r_13.2)) else if (z.2.2.1 2 x1.toNatClampNeg) = (7 : Int32) then ((fX2_add k z (z.2.2.1 2 (x1 + (1 : Int32)).toNatClampNeg)).bind fun r_15 => if ¬ r_15.1 &&& 1 = r_15.1 then none else some (r_15.1, r_15.2)) else if (z.2.2.1 2 x1.toNatClampNeg) = (8 : Int32) then ((fX2_arePassed k z (z.2.2.1 2 (x1 + (1 : Int32)).toNatClampNeg)).bind fun r_17 => if ¬ r_17.1 &&& 1 = r_17.1 then none else some (r_17.1, r_17.2)) else (some ((1 : Int32), z)))))
set_option maxHeartbeats 1000000 in
theorem wX2_isPlayed {l : Launch} {E : ME} (k : Nat) (z : MS) (x1 : Int32) (y : Int32 × MS) (hE : fX2_isPlayed k z x1 = some y) : mM l yX2_isPlayed (ws_ yX2_isPlayed cX2_isPlayed 4 (some .boolean)) rmX2_isPlayed E z [.int x1] (some (.int y.1)) y.2 := by
  refine m_met (by decide) rfl (Nat.le_of_ble_eq_true rfl) (fun p e s m args below meth c hC => ?_)
  intro H locs ls hP hS hl
  have hx := hC.1
  have hb := hC.2.1
  have hown := hC.2.2.2.2.2.1
  have hts := hC.2.2.2.2.2.2.1
  have hl : lv_has ls 4 [(0, .ref (E.2.2.2.1 0)), (1, .int x1)] := hl
  unfold fX2_isPlayed at hE
  refine lv_aload_n hx hb dX2_isPlayed_0 rfl (lv_at hl 0 rfl) ?_
  refine gM_16 hC hP dX2_isPlayed_1 ?_
  refine lv_iload_n hx hb dX2_isPlayed_4 rfl (lv_at hl 1 rfl) ?_
  refine lv_iconst (v := 1) hx hb dX2_isPlayed_5 (by decide) ?_
  refine lv_iadd hx hb dX2_isPlayed_6 ?_
  obtain ⟨c_1, hE⟩ := og hE
  refine aM_2 hC hP c_1 dX2_isPlayed_7 ?_
  refine lv_istore_n (lv' := [(2, .int (z.2.2.1 2 (x1 + (1 : Int32)).toNatClampNeg)), (0, .ref (E.2.2.2.1 0)), (1, .int x1)]) hx hb dX2_isPlayed_8 rfl hl (Nat.le_of_ble_eq_true rfl) rfl (fun ls hl => ?_)
  refine lv_aload_n hx hb dX2_isPlayed_9 rfl (lv_at hl 1 rfl) ?_
  refine gM_16 hC hP dX2_isPlayed_10 ?_
  refine lv_iload_n hx hb dX2_isPlayed_13 rfl (lv_at hl 2 rfl) ?_
  refine lv_iconst (v := 2) hx hb dX2_isPlayed_14 (by decide) ?_
  refine lv_iadd hx hb dX2_isPlayed_15 ?_
  obtain ⟨c_2, hE⟩ := og hE
  refine aM_2 hC hP c_2 dX2_isPlayed_16 ?_
  refine lv_istore_n (lv' := [(3, .int (z.2.2.1 2 (x1 + (2 : Int32)).toNatClampNeg)), (2, .int (z.2.2.1 2 (x1 + (1 : Int32)).toNatClampNeg)), (0, .ref (E.2.2.2.1 0)), (1, .int x1)]) hx hb dX2_isPlayed_17 rfl hl (Nat.le_of_ble_eq_true rfl) rfl (fun ls hl => ?_)
  refine lv_aload_n hx hb dX2_isPlayed_18 rfl (lv_at hl 2 rfl) ?_
  refine gM_16 hC hP dX2_isPlayed_19 ?_
  refine lv_iload_n hx hb dX2_isPlayed_22 rfl (lv_at hl 3 rfl) ?_
  obtain ⟨c_3, hE⟩ := og hE
  refine aM_2 hC hP c_3 dX2_isPlayed_23 ?_
  by_cases c_4_0 : (z.2.2.1 2 x1.toNatClampNeg) = (2 : Int32)
  · have hE := ip c_4_0 hE
    refine lv_tableIn (tgt := 68) (off := 44) hx hb dX2_isPlayed_24 (by rw [c_4_0]; decide) (by rw [c_4_0]; decide) (by rw [c_4_0]; rfl) (by decide) ?_
    refine lv_aload_n hx hb dX2_isPlayed_68 rfl (lv_at hl 2 rfl) ?_
    refine lv_iload_n hx hb dX2_isPlayed_69 rfl (lv_at hl 1 rfl) ?_
    refine lv_iload_n hx hb dX2_isPlayed_70 rfl (lv_at hl 0 rfl) ?_
    obtain ⟨r_5, h_5, hE⟩ := ob hE
    refine m_calli [.int (z.2.2.1 2 (x1 + (1 : Int32)).toNatClampNeg), .int (z.2.2.1 2 (x1 + (2 : Int32)).toNatClampNeg)] hC hP hS hl.1 (wX2_bar k z (z.2.2.1 2 (x1 + (1 : Int32)).toNatClampNeg) (z.2.2.1 2 (x1 + (2 : Int32)).toNatClampNeg) r_5 h_5) (cwV 2 hts lkX2_340 rfl rfl rfl cdX2_bar ⟨Nat.le_of_ble_eq_true rfl, Nat.le_of_ble_eq_true rfl⟩) rfl rfl (lv_room (Nat.le_of_ble_eq_true rfl)) dX2_isPlayed_71 (fun H locs hP hS => ?_)
    obtain ⟨c_6, hE⟩ := og hE
    obtain rfl := Option.some.inj hE
    exact m_zret hC hP hS (Decidable.not_not.mp c_6) dX2_isPlayed_74
  have hE := iq c_4_0 hE
  by_cases c_4_1 : (z.2.2.1 2 x1.toNatClampNeg) = (3 : Int32)
  · have hE := ip c_4_1 hE
    refine lv_tableIn (tgt := 75) (off := 51) hx hb dX2_isPlayed_24 (by rw [c_4_1]; decide) (by rw [c_4_1]; decide) (by rw [c_4_1]; rfl) (by decide) ?_
    refine lv_aload_n hx hb dX2_isPlayed_75 rfl (lv_at hl 2 rfl) ?_
    refine lv_iload_n hx hb dX2_isPlayed_76 rfl (lv_at hl 0 rfl) ?_
    refine lv_iload_n hx hb dX2_isPlayed_77 rfl (lv_at hl 1 rfl) ?_
    obtain ⟨r_7, h_7, hE⟩ := ob hE
    refine m_calli [.int (z.2.2.1 2 (x1 + (2 : Int32)).toNatClampNeg), .int (z.2.2.1 2 (x1 + (1 : Int32)).toNatClampNeg)] hC hP hS hl.1 (wX2_paint k z (z.2.2.1 2 (x1 + (2 : Int32)).toNatClampNeg) (z.2.2.1 2 (x1 + (1 : Int32)).toNatClampNeg) r_7 h_7) (cwV 2 hts lkX2_343 rfl rfl rfl cdX2_paint ⟨Nat.le_of_ble_eq_true rfl, Nat.le_of_ble_eq_true rfl⟩) rfl rfl (lv_room (Nat.le_of_ble_eq_true rfl)) dX2_isPlayed_78 (fun H locs hP hS => ?_)
    obtain ⟨c_8, hE⟩ := og hE
    obtain rfl := Option.some.inj hE
    exact m_zret hC hP hS (Decidable.not_not.mp c_8) dX2_isPlayed_81
  have hE := iq c_4_1 hE
  by_cases c_4_2 : (z.2.2.1 2 x1.toNatClampNeg) = (4 : Int32)
  · have hE := ip c_4_2 hE
    refine lv_tableIn (tgt := 82) (off := 58) hx hb dX2_isPlayed_24 (by rw [c_4_2]; decide) (by rw [c_4_2]; decide) (by rw [c_4_2]; rfl) (by decide) ?_
    refine lv_aload_n hx hb dX2_isPlayed_82 rfl (lv_at hl 2 rfl) ?_
    refine lv_iload_n hx hb dX2_isPlayed_83 rfl (lv_at hl 1 rfl) ?_
    refine lv_iload_n hx hb dX2_isPlayed_84 rfl (lv_at hl 0 rfl) ?_
    obtain ⟨r_9, h_9, hE⟩ := ob hE
    refine m_calli [.int (z.2.2.1 2 (x1 + (1 : Int32)).toNatClampNeg), .int (z.2.2.1 2 (x1 + (2 : Int32)).toNatClampNeg)] hC hP hS hl.1 (wX2_child z (z.2.2.1 2 (x1 + (1 : Int32)).toNatClampNeg) (z.2.2.1 2 (x1 + (2 : Int32)).toNatClampNeg) r_9 h_9) (cwV 2 hts lkX2_346 rfl rfl rfl cdX2_child ⟨Nat.le_of_ble_eq_true rfl, Nat.le_of_ble_eq_true rfl⟩) rfl rfl (lv_room (Nat.le_of_ble_eq_true rfl)) dX2_isPlayed_85 (fun H locs hP hS => ?_)
    refine lv_if_lt (tgt := 95) hx hb dX2_isPlayed_88 (by decide) (fun c_10 => ?_) (fun c_10 => ?_)
    · have hE := ip c_10 hE
      refine lv_iconst (v := 0) hx hb dX2_isPlayed_95 (by decide) ?_
      obtain rfl := Option.some.inj hE
      exact m_zret (v := (0 : Int32)) hC hP hS (by decide) dX2_isPlayed_96
    · have hE := iq c_10 hE
      refine lv_iconst (v := 1) hx hb dX2_isPlayed_91 (by decide) ?_
      refine lv_goto (tgt := 96) hx hb dX2_isPlayed_92 (by decide) ?_
      obtain rfl := Option.some.inj hE
      exact m_zret (v := (1 : Int32)) hC hP hS (by decide) dX2_isPlayed_96
  have hE := iq c_4_2 hE
  by_cases c_4_3 : (z.2.2.1 2 x1.toNatClampNeg) = (5 : Int32)
  · have hE := ip c_4_3 hE
    refine lv_tableIn (tgt := 97) (off := 73) hx hb dX2_isPlayed_24 (by rw [c_4_3]; decide) (by rw [c_4_3]; decide) (by rw [c_4_3]; rfl) (by decide) ?_
    refine lv_aload_n hx hb dX2_isPlayed_97 rfl (lv_at hl 2 rfl) ?_
    refine lv_iload_n hx hb dX2_isPlayed_98 rfl (lv_at hl 1 rfl) ?_
    refine lv_iload_n hx hb dX2_isPlayed_99 rfl (lv_at hl 0 rfl) ?_
    obtain ⟨r_11, h_11, hE⟩ := ob hE
    refine m_calli [.int (z.2.2.1 2 (x1 + (1 : Int32)).toNatClampNeg), .int (z.2.2.1 2 (x1 + (2 : Int32)).toNatClampNeg)] hC hP hS hl.1 (wX2_run k z (z.2.2.1 2 (x1 + (1 : Int32)).toNatClampNeg) (z.2.2.1 2 (x1 + (2 : Int32)).toNatClampNeg) r_11 h_11) (cwV 2 hts lkX2_349 rfl rfl rfl cdX2_run ⟨Nat.le_of_ble_eq_true rfl, Nat.le_of_ble_eq_true rfl⟩) rfl rfl (lv_room (Nat.le_of_ble_eq_true rfl)) dX2_isPlayed_100 (fun H locs hP hS => ?_)
    refine lv_if_lt (tgt := 110) hx hb dX2_isPlayed_103 (by decide) (fun c_12 => ?_) (fun c_12 => ?_)
    · have hE := ip c_12 hE
      refine lv_iconst (v := 0) hx hb dX2_isPlayed_110 (by decide) ?_
      obtain rfl := Option.some.inj hE
      exact m_zret (v := (0 : Int32)) hC hP hS (by decide) dX2_isPlayed_111
    · have hE := iq c_12 hE
      refine lv_iconst (v := 1) hx hb dX2_isPlayed_106 (by decide) ?_
      refine lv_goto (tgt := 111) hx hb dX2_isPlayed_107 (by decide) ?_
      obtain rfl := Option.some.inj hE
      exact m_zret (v := (1 : Int32)) hC hP hS (by decide) dX2_isPlayed_111
  have hE := iq c_4_3 hE
  by_cases c_4_4 : (z.2.2.1 2 x1.toNatClampNeg) = (6 : Int32)
  · have hE := ip c_4_4 hE
    refine lv_tableIn (tgt := 112) (off := 88) hx hb dX2_isPlayed_24 (by rw [c_4_4]; decide) (by rw [c_4_4]; decide) (by rw [c_4_4]; rfl) (by decide) ?_
    refine lv_aload_n hx hb dX2_isPlayed_112 rfl (lv_at hl 2 rfl) ?_
    refine lv_iload_n hx hb dX2_isPlayed_113 rfl (lv_at hl 1 rfl) ?_
    obtain ⟨r_13, h_13, hE⟩ := ob hE
    refine m_calli [.int (z.2.2.1 2 (x1 + (1 : Int32)).toNatClampNeg)] hC hP hS hl.1 (wX2_cut k z (z.2.2.1 2 (x1 + (1 : Int32)).toNatClampNeg) r_13 h_13) (cwV 1 hts lkX2_352 rfl rfl rfl cdX2_cut ⟨Nat.le_of_ble_eq_true rfl, Nat.le_of_ble_eq_true rfl⟩) rfl rfl (lv_room (Nat.le_of_ble_eq_true rfl)) dX2_isPlayed_114 (fun H locs hP hS => ?_)
    obtain ⟨c_14, hE⟩ := og hE
    obtain rfl := Option.some.inj hE
    exact m_zret hC hP hS (Decidable.not_not.mp c_14) dX2_isPlayed_117
  have hE := iq c_4_4 hE
  by_cases c_4_5 : (z.2.2.1 2 x1.toNatClampNeg) = (7 : Int32)
  · have hE := ip c_4_5 hE
    refine lv_tableIn (tgt := 118) (off := 94) hx hb dX2_isPlayed_24 (by rw [c_4_5]; decide) (by rw [c_4_5]; decide) (by rw [c_4_5]; rfl) (by decide) ?_
    refine lv_aload_n hx hb dX2_isPlayed_118 rfl (lv_at hl 2 rfl) ?_
    refine lv_iload_n hx hb dX2_isPlayed_119 rfl (lv_at hl 1 rfl) ?_
    obtain ⟨r_15, h_15, hE⟩ := ob hE
    refine m_calli [.int (z.2.2.1 2 (x1 + (1 : Int32)).toNatClampNeg)] hC hP hS hl.1 (wX2_add k z (z.2.2.1 2 (x1 + (1 : Int32)).toNatClampNeg) r_15 h_15) (cwV 1 hts lkX2_355 rfl rfl rfl cdX2_add ⟨Nat.le_of_ble_eq_true rfl, Nat.le_of_ble_eq_true rfl⟩) rfl rfl (lv_room (Nat.le_of_ble_eq_true rfl)) dX2_isPlayed_120 (fun H locs hP hS => ?_)
    obtain ⟨c_16, hE⟩ := og hE
    obtain rfl := Option.some.inj hE
    exact m_zret hC hP hS (Decidable.not_not.mp c_16) dX2_isPlayed_123
  have hE := iq c_4_5 hE
  by_cases c_4_6 : (z.2.2.1 2 x1.toNatClampNeg) = (8 : Int32)
  · have hE := ip c_4_6 hE
    refine lv_tableIn (tgt := 124) (off := 100) hx hb dX2_isPlayed_24 (by rw [c_4_6]; decide) (by rw [c_4_6]; decide) (by rw [c_4_6]; rfl) (by decide) ?_
    refine lv_aload_n hx hb dX2_isPlayed_124 rfl (lv_at hl 2 rfl) ?_
    refine lv_iload_n hx hb dX2_isPlayed_125 rfl (lv_at hl 1 rfl) ?_
    obtain ⟨r_17, h_17, hE⟩ := ob hE
    refine m_calli [.int (z.2.2.1 2 (x1 + (1 : Int32)).toNatClampNeg)] hC hP hS hl.1 (wX2_arePassed k z (z.2.2.1 2 (x1 + (1 : Int32)).toNatClampNeg) r_17 h_17) (cwV 1 hts lkX2_337 rfl rfl rfl cdX2_arePassed ⟨Nat.le_of_ble_eq_true rfl, Nat.le_of_ble_eq_true rfl⟩) rfl rfl (lv_room (Nat.le_of_ble_eq_true rfl)) dX2_isPlayed_126 (fun H locs hP hS => ?_)
    obtain ⟨c_18, hE⟩ := og hE
    obtain rfl := Option.some.inj hE
    exact m_zret hC hP hS (Decidable.not_not.mp c_18) dX2_isPlayed_129
  have hE := iq c_4_6 hE
  refine m_tdef (tgt := 130) hx hb dX2_isPlayed_24 (by decide) (fun h1 h2 => ?_) ?_
  · have h3 : (z.2.2.1 2 x1.toNatClampNeg).toInt = 2 ∨ (z.2.2.1 2 x1.toNatClampNeg).toInt = 3 ∨ (z.2.2.1 2 x1.toNatClampNeg).toInt = 4 ∨ (z.2.2.1 2 x1.toNatClampNeg).toInt = 5 ∨ (z.2.2.1 2 x1.toNatClampNeg).toInt = 6 ∨ (z.2.2.1 2 x1.toNatClampNeg).toInt = 7 ∨ (z.2.2.1 2 x1.toNatClampNeg).toInt = 8 := by omega
    rcases h3 with h3 | h3 | h3 | h3 | h3 | h3 | h3
    · exact absurd (Int32.toInt_inj.mp (by rw [h3]; decide)) c_4_0
    · exact absurd (Int32.toInt_inj.mp (by rw [h3]; decide)) c_4_1
    · exact absurd (Int32.toInt_inj.mp (by rw [h3]; decide)) c_4_2
    · exact absurd (Int32.toInt_inj.mp (by rw [h3]; decide)) c_4_3
    · exact absurd (Int32.toInt_inj.mp (by rw [h3]; decide)) c_4_4
    · exact absurd (Int32.toInt_inj.mp (by rw [h3]; decide)) c_4_5
    · exact absurd (Int32.toInt_inj.mp (by rw [h3]; decide)) c_4_6
  refine lv_iconst (v := 1) hx hb dX2_isPlayed_130 (by decide) ?_
  obtain rfl := Option.some.inj hE
  exact m_zret (v := (1 : Int32)) hC hP hS (by decide) dX2_isPlayed_131
def fX2_played_B21 (k : Nat) (v1 : Int32) (a : Int32 × MS) : Option ((Int32 × MS) ⊕ (MS ⊕ (Int32 × MS))) := if ib ((681 : Int32) * v1) 2724 then none else (if (a.2.2.2.1 2 ((681 : Int32) * v1).toNatClampNeg) ≤ a.1 then (some (.inr (.inl a.2))) else ((fX2_isPlayed k a.2 ((((681 : Int32) * v1) + (1 : Int32)) + ((3 : Int32) * a.1))).bind fun r_6 => if r_6.1 = 0 then (some (.inr (.inr (a.1, r_6.2)))) else (some (.inl ((a.1 + (1 : Int32)), r_6.2)))))
set_option maxHeartbeats 1000000 in
theorem wX2_played_B21 {p : Program} {l : Launch} {e : Env} {s : State} {m : MethodId} {args : Array Value} {below : List Frame} {meth : Method} {c : Code} {E : ME} {Q : State → Prop} (k : Nat) (v1 : Int32) (hC : mC E cX2_played 3 (some .int) p s m args meth c) (a : Int32 × MS) (y : (Int32 × MS) ⊕ (MS ⊕ (Int32 × MS))) (hE : fX2_played_B21 k v1 a = some y) (hc : ∀ a : Int32 × MS, y = .inl a → mW p l e rmX2_played s m args below meth c E 3 Q 21 [(0, .ref (E.2.2.2.1 0)), (1, .int v1), (2, .int a.1)] [] a.2) (hx1 : ∀ b : MS, y = .inr (.inl b) → mW p l e rmX2_played s m args below meth c E 3 Q 61 [] [] b) (hx2 : ∀ b : Int32 × MS, y = .inr (.inr b) → mW p l e rmX2_played s m args below meth c E 3 Q 53 [(2, .int b.1)] [] b.2) : mW p l e rmX2_played s m args below meth c E 3 Q 21 [(0, .ref (E.2.2.2.1 0)), (1, .int v1), (2, .int a.1)] [] a.2 := by
  intro H locs ls hP hS hl
  have hx := hC.1
  have hb := hC.2.1
  have hown := hC.2.2.2.2.2.1
  have hts := hC.2.2.2.2.2.2.1
  unfold fX2_played_B21 at hE
  refine lv_iload_n hx hb dX2_played_21 rfl (lv_at hl 2 rfl) ?_
  refine lv_aload_n hx hb dX2_played_22 rfl (lv_at hl 0 rfl) ?_
  refine gM_16 hC hP dX2_played_23 ?_
  refine lv_sipush (v := 681) hx hb dX2_played_26 (by decide) ?_
  refine lv_iload_n hx hb dX2_played_29 rfl (lv_at hl 1 rfl) ?_
  refine lv_imul hx hb dX2_played_30 ?_
  obtain ⟨c_4, hE⟩ := og hE
  refine aM_2 hC hP c_4 dX2_played_31 ?_
  refine lv_icmp_ge (tgt := 61) hx hb dX2_played_32 (by decide) (fun c_5 => ?_) (fun c_5 => ?_)
  · have hE := ip c_5 hE
    exact hx1 _ (Option.some.inj hE).symm H locs ls hP hS (lv_sub hl [] rfl)
  · have hE := iq c_5 hE
    refine lv_aload_n hx hb dX2_played_35 rfl (lv_at hl 0 rfl) ?_
    refine lv_sipush (v := 681) hx hb dX2_played_36 (by decide) ?_
    refine lv_iload_n hx hb dX2_played_39 rfl (lv_at hl 1 rfl) ?_
    refine lv_imul hx hb dX2_played_40 ?_
    refine lv_iconst (v := 1) hx hb dX2_played_41 (by decide) ?_
    refine lv_iadd hx hb dX2_played_42 ?_
    refine lv_iconst (v := 3) hx hb dX2_played_43 (by decide) ?_
    refine lv_iload_n hx hb dX2_played_44 rfl (lv_at hl 2 rfl) ?_
    refine lv_imul hx hb dX2_played_45 ?_
    refine lv_iadd hx hb dX2_played_46 ?_
    obtain ⟨r_6, h_6, hE⟩ := ob hE
    refine m_calli [.int ((((681 : Int32) * v1) + (1 : Int32)) + ((3 : Int32) * a.1))] hC hP hS hl.1 (wX2_isPlayed k a.2 ((((681 : Int32) * v1) + (1 : Int32)) + ((3 : Int32) * a.1)) r_6 h_6) (cwV 1 hts lkX2_358 rfl rfl rfl cdX2_isPlayed ⟨Nat.le_of_ble_eq_true rfl, Nat.le_of_ble_eq_true rfl⟩) rfl rfl (lv_room (Nat.le_of_ble_eq_true rfl)) dX2_played_47 (fun H locs hP hS => ?_)
    refine lv_if_ne (tgt := 55) hx hb dX2_played_50 (by decide) (fun c_7 => ?_) (fun c_7 => ?_)
    · have hE := iq c_7 hE
      refine lv_iinc (v := (a.1 + (1 : Int32))) (lv' := [(2, .int (a.1 + (1 : Int32))), (0, .ref (E.2.2.2.1 0)), (1, .int v1)]) hx hb dX2_played_55 hl (k := 2) rfl rfl (Nat.le_of_ble_eq_true rfl) rfl (fun ls hl => ?_)
      refine lv_goto (tgt := 21) hx hb dX2_played_58 (by decide) ?_
      exact hc _ (Option.some.inj hE).symm H locs ls hP hS (lv_sub hl [1, 2, 0] rfl)
    · have hE := ip c_7 hE
      exact hx2 _ (Option.some.inj hE).symm H locs ls hP hS (lv_sub hl [2] rfl)
def fX2_played (k : Nat) (z : MS) (x1 : Int32) : Option (Int32 × MS) := (fX2_isIn x1 (0 : Int32) ((z.2.2.1 0 (1 : Int32).toNatClampNeg) - (1 : Int32))).bind fun r_2 => if r_2 = 0 then (some ((-2 : Int32), z)) else ((lpo (fX2_played_B21 k x1) k ((0 : Int32), z)).bind fun x_8 => (Sum.elim (fun t_8 : MS => some ((-1 : Int32), t_8)) (fun t_8 : Int32 × MS => some (t_8.1, t_8.2))) x_8)
set_option maxHeartbeats 1000000 in
theorem wX2_played {l : Launch} {E : ME} (k : Nat) (z : MS) (x1 : Int32) (y : Int32 × MS) (hE : fX2_played k z x1 = some y) : mM l yX2_played (ws_ yX2_played cX2_played 3 (some .int)) rmX2_played E z [.int x1] (some (.int y.1)) y.2 := by
  refine m_met (by decide) rfl (Nat.le_of_ble_eq_true rfl) (fun p e s m args below meth c hC => ?_)
  intro H locs ls hP hS hl
  have hx := hC.1
  have hb := hC.2.1
  have hown := hC.2.2.2.2.2.1
  have hts := hC.2.2.2.2.2.2.1
  have hl : lv_has ls 3 [(0, .ref (E.2.2.2.1 0)), (1, .int x1)] := hl
  unfold fX2_played at hE
  refine lv_iload_n hx hb dX2_played_0 rfl (lv_at hl 1 rfl) ?_
  refine lv_iconst (v := 0) hx hb dX2_played_1 (by decide) ?_
  refine lv_aload_n hx hb dX2_played_2 rfl (lv_at hl 0 rfl) ?_
  refine gM_7 hC hP dX2_played_3 ?_
  refine lv_iconst (v := 1) hx hb dX2_played_6 (by decide) ?_
  refine aM_0 hC hP (i := (1 : Int32)) (by decide) dX2_played_7 ?_
  refine lv_iconst (v := 1) hx hb dX2_played_8 (by decide) ?_
  refine lv_isub hx hb dX2_played_9 ?_
  obtain ⟨r_2, h_2, hE⟩ := ob hE
  refine s_calli [.int x1, .int (0 : Int32), .int ((z.2.2.1 0 (1 : Int32).toNatClampNeg) - (1 : Int32))] hC.sC hl.1 (wX2_isIn x1 (0 : Int32) ((z.2.2.1 0 (1 : Int32).toNatClampNeg) - (1 : Int32)) r_2 h_2) (va_cwS 3 hts lkX2_69 rfl rfl rfl cdX2_isIn ⟨Nat.le_of_ble_eq_true rfl, Nat.le_of_ble_eq_true rfl⟩) rfl rfl (lv_room (Nat.le_of_ble_eq_true rfl)) ⟨Nat.zero_le _, Nat.zero_le _⟩ dX2_played_10 ?_
  refine lv_if_ne (tgt := 19) hx hb dX2_played_13 (by decide) (fun c_3 => ?_) (fun c_3 => ?_)
  · have hE := iq c_3 hE
    refine lv_iconst (v := 0) hx hb dX2_played_19 (by decide) ?_
    refine lv_istore_n (lv' := [(2, .int (0 : Int32)), (0, .ref (E.2.2.2.1 0)), (1, .int x1)]) hx hb dX2_played_20 rfl hl (Nat.le_of_ble_eq_true rfl) rfl (fun ls hl => ?_)
    obtain ⟨x_8, h_8, hE⟩ := ob hE
    refine lpo_walk (fun p_8 : Int32 × MS => mW p l e rmX2_played s m args below meth c E 3 (mQ E below args s (some (.int y.1)) y.2) 21 [(0, .ref (E.2.2.2.1 0)), (1, .int x1), (2, .int p_8.1)] [] p_8.2) (fun q_8 : (MS ⊕ (Int32 × MS)) => (∀ t_8 : MS, q_8 = (.inl t_8) → mW p l e rmX2_played s m args below meth c E 3 (mQ E below args s (some (.int y.1)) y.2) 61 [] [] t_8) ∧ (∀ t_8 : Int32 × MS, q_8 = (.inr t_8) → mW p l e rmX2_played s m args below meth c E 3 (mQ E below args s (some (.int y.1)) y.2) 53 [(2, .int t_8.1)] [] t_8.2)) (fun a_8 y_8 hB_8 hc_8 hx_8 => wX2_played_B21 k x1 hC a_8 y_8 hB_8 hc_8 (fun t_8 e_8 => (hx_8 _ e_8).1 t_8 rfl) (fun t_8 e_8 => (hx_8 _ e_8).2 t_8 rfl)) _ _ x_8 h_8 ?_ H locs ls hP hS (lv_sub hl [1, 2, 0] rfl)
    refine ⟨?_, ?_⟩
    · intro t_8 e_8
      subst e_8
      have hE := oel hE
      intro H locs ls hP hS hl
      refine lv_iconst (v := -1) hx hb dX2_played_61 (by decide) ?_
      obtain rfl := Option.some.inj hE
      exact m_iret hC hP hS dX2_played_62
    · intro t_8 e_8
      subst e_8
      have hE := oer hE
      intro H locs ls hP hS hl
      refine lv_iload_n hx hb dX2_played_53 rfl (lv_at hl 0 rfl) ?_
      obtain rfl := Option.some.inj hE
      exact m_iret hC hP hS dX2_played_54
  · have hE := ip c_3 hE
    refine lv_bipush (v := -2) hx hb dX2_played_16 (by decide) ?_
    obtain rfl := Option.some.inj hE
    exact m_iret hC hP hS dX2_played_18
def fX2_happens_J44 (k : Nat) (z : MS) (x1 : Int32) (x2 : Int32) : Option (MS) := if (z.2.2.1 0 (0 : Int32).toNatClampNeg) ≤ 0 then (some z) else (if (z.2.2.1 0 (0 : Int32).toNatClampNeg) = (0 : Int32) then none else (fX2_canRun z (x1 - x1 / (z.2.2.1 0 (0 : Int32).toNatClampNeg) * (z.2.2.1 0 (0 : Int32).toNatClampNeg))).bind fun r_7 => if r_7 = 0 then (some z) else (if (z.2.2.1 0 (0 : Int32).toNatClampNeg) = (0 : Int32) then none else (fX2_runNow k z (x1 - x1 / (z.2.2.1 0 (0 : Int32).toNatClampNeg) * (z.2.2.1 0 (0 : Int32).toNatClampNeg)) x2).bind fun r_11 => some r_11))
set_option maxHeartbeats 1000000 in
theorem wX2_happens_J44 {p : Program} {l : Launch} {e : Env} {s : State} {m : MethodId} {args : Array Value} {below : List Frame} {meth : Method} {c : Code} {E : ME} (k : Nat) (z : MS) (x1 : Int32) (x2 : Int32) (hC : mC E cX2_happens 3 none p s m args meth c) (y : MS) (hE : fX2_happens_J44 k z x1 x2 = some y) : mW p l e rmX2_happens s m args below meth c E 3 (mQ E below args s none y) 44 [(0, .ref (E.2.2.2.1 0)), (1, .int x1), (2, .int x2)] [] z := by
  intro H locs ls hP hS hl
  have hx := hC.1
  have hb := hC.2.1
  have hown := hC.2.2.2.2.2.1
  have hts := hC.2.2.2.2.2.2.1
  unfold fX2_happens_J44 at hE
  refine lv_aload_n hx hb dX2_happens_44 rfl (lv_at hl 0 rfl) ?_
  refine gM_7 hC hP dX2_happens_45 ?_
  refine lv_iconst (v := 0) hx hb dX2_happens_48 (by decide) ?_
  refine aM_0 hC hP (i := (0 : Int32)) (by decide) dX2_happens_49 ?_
  refine lv_if_le (tgt := 142) hx hb dX2_happens_50 (by decide) (fun c_4 => ?_) (fun c_4 => ?_)
  · have hE := ip c_4 hE
    obtain rfl := Option.some.inj hE
    exact m_vret hC hP hS dX2_happens_142
  · have hE := iq c_4 hE
    refine lv_aload_n hx hb dX2_happens_53 rfl (lv_at hl 0 rfl) ?_
    refine lv_iload_n hx hb dX2_happens_54 rfl (lv_at hl 1 rfl) ?_
    refine lv_aload_n hx hb dX2_happens_55 rfl (lv_at hl 0 rfl) ?_
    refine gM_7 hC hP dX2_happens_56 ?_
    refine lv_iconst (v := 0) hx hb dX2_happens_59 (by decide) ?_
    refine aM_0 hC hP (i := (0 : Int32)) (by decide) dX2_happens_60 ?_
    obtain ⟨c_6, hE⟩ := og hE
    refine lv_irem hx hb dX2_happens_61 c_6 ?_
    obtain ⟨r_7, h_7, hE⟩ := ob hE
    refine m_calli [.int (x1 - x1 / (z.2.2.1 0 (0 : Int32).toNatClampNeg) * (z.2.2.1 0 (0 : Int32).toNatClampNeg))] hC hP hS hl.1 (wX2_canRun z (x1 - x1 / (z.2.2.1 0 (0 : Int32).toNatClampNeg) * (z.2.2.1 0 (0 : Int32).toNatClampNeg)) r_7 h_7) (cwV 1 hts lkX2_325 rfl rfl rfl cdX2_canRun ⟨Nat.le_of_ble_eq_true rfl, Nat.le_of_ble_eq_true rfl⟩) rfl rfl (lv_room (Nat.le_of_ble_eq_true rfl)) dX2_happens_62 (fun H locs hP hS => ?_)
    refine lv_if_eq (tgt := 142) hx hb dX2_happens_65 (by decide) (fun c_8 => ?_) (fun c_8 => ?_)
    · have hE := ip c_8 hE
      obtain rfl := Option.some.inj hE
      exact m_vret hC hP hS dX2_happens_142
    · have hE := iq c_8 hE
      refine lv_aload_n hx hb dX2_happens_68 rfl (lv_at hl 0 rfl) ?_
      refine lv_iload_n hx hb dX2_happens_69 rfl (lv_at hl 1 rfl) ?_
      refine lv_aload_n hx hb dX2_happens_70 rfl (lv_at hl 0 rfl) ?_
      refine gM_7 hC hP dX2_happens_71 ?_
      refine lv_iconst (v := 0) hx hb dX2_happens_74 (by decide) ?_
      refine aM_0 hC hP (i := (0 : Int32)) (by decide) dX2_happens_75 ?_
      obtain ⟨c_10, hE⟩ := og hE
      refine lv_irem hx hb dX2_happens_76 c_10 ?_
      refine lv_iload_n hx hb dX2_happens_77 rfl (lv_at hl 2 rfl) ?_
      obtain ⟨r_11, h_11, hE⟩ := ob hE
      refine m_callv [.int (x1 - x1 / (z.2.2.1 0 (0 : Int32).toNatClampNeg) * (z.2.2.1 0 (0 : Int32).toNatClampNeg)), .int x2] hC hP hS hl.1 (wX2_runNow k z (x1 - x1 / (z.2.2.1 0 (0 : Int32).toNatClampNeg) * (z.2.2.1 0 (0 : Int32).toNatClampNeg)) x2 r_11 h_11) (cwV 2 hts lkX2_316 rfl rfl rfl cdX2_runNow ⟨Nat.le_of_ble_eq_true rfl, Nat.le_of_ble_eq_true rfl⟩) rfl rfl (lv_room (Nat.le_of_ble_eq_true rfl)) dX2_happens_78 (fun H locs hP hS => ?_)
      refine lv_goto (tgt := 142) hx hb dX2_happens_81 (by decide) ?_
      obtain rfl := Option.some.inj hE
      exact m_vret hC hP hS dX2_happens_142
def fX2_happens (k : Nat) (z : MS) (x1 : Int32) : Option MS := nm ((x1 / (6 : Int32)) - (x1 / (6 : Int32)) / (30 : Int32) * (30 : Int32)) fun v_1 => if (x1 - x1 / (6 : Int32) * (6 : Int32)) = (0 : Int32) then ((fX2_happens_J44 k z x1 v_1)) else if (x1 - x1 / (6 : Int32) * (6 : Int32)) = (1 : Int32) then ((fX2_happens_J44 k z x1 v_1)) else if (x1 - x1 / (6 : Int32) * (6 : Int32)) = (2 : Int32) then ((fX2_isBar z v_1).bind fun r_12 => if r_12 = 0 then (some z) else (if ib ((9 : Int32) + v_1) 3205 then none else (nm (mA z 0 (upd (z.2.2.1 0) ((9 : Int32) + v_1).toNatClampNeg (0 : Int32))) fun z_14 => some z_14))) else if (x1 - x1 / (6 : Int32) * (6 : Int32)) = (3 : Int32) then (if ib ((9 : Int32) + v_1) 3205 then none else (if (z.2.2.1 0 ((9 : Int32) + v_1).toNatClampNeg) = 0 then ((fX2_addNow z v_1).bind fun r_17 => some r_17) else (some z))) else (if (9999 : Int32) ≤ (z.2.2.1 0 (6 : Int32).toNatClampNeg) then (some z) else ((fX2_pass k z ).bind fun r_20 => some r_20))
set_option maxHeartbeats 1000000 in
theorem wX2_happens {l : Launch} {E : ME} (k : Nat) (z : MS) (x1 : Int32) (y : MS) (hE : fX2_happens k z x1 = some y) : mM l yX2_happens (ws_ yX2_happens cX2_happens 3 none) rmX2_happens E z [.int x1] none y := by
  refine m_met (by decide) rfl (Nat.le_of_ble_eq_true rfl) (fun p e s m args below meth c hC => ?_)
  intro H locs ls hP hS hl
  have hx := hC.1
  have hb := hC.2.1
  have hown := hC.2.2.2.2.2.1
  have hts := hC.2.2.2.2.2.2.1
  have hl : lv_has ls 3 [(0, .ref (E.2.2.2.1 0)), (1, .int x1)] := hl
  unfold fX2_happens at hE
  refine lv_iload_n hx hb dX2_happens_0 rfl (lv_at hl 1 rfl) ?_
  refine lv_bipush (v := 6) hx hb dX2_happens_1 (by decide) ?_
  refine lv_idiv hx hb dX2_happens_3 (by decide) ?_
  refine lv_bipush (v := 30) hx hb dX2_happens_4 (by decide) ?_
  refine lv_irem hx hb dX2_happens_6 (by decide) ?_
  refine nm_i hE (fun v_1 ev_1 hE => ?_)
  refine lv_istore_n (lv' := [(2, .int v_1), (0, .ref (E.2.2.2.1 0)), (1, .int x1)]) hx hb dX2_happens_7 rfl hl (Nat.le_of_ble_eq_true rfl) rfl (fun ls hl => ?_)
  refine lv_iload_n hx hb dX2_happens_8 rfl (lv_at hl 2 rfl) ?_
  refine lv_bipush (v := 6) hx hb dX2_happens_9 (by decide) ?_
  refine lv_irem hx hb dX2_happens_11 (by decide) ?_
  by_cases c_2_0 : (x1 - x1 / (6 : Int32) * (6 : Int32)) = (0 : Int32)
  · have hE := ip c_2_0 hE
    refine lv_tableIn (tgt := 44) (off := 32) hx hb dX2_happens_12 (by rw [c_2_0]; decide) (by rw [c_2_0]; decide) (by rw [c_2_0]; rfl) (by decide) ?_
    exact wX2_happens_J44 k z x1 v_1 hC y hE H locs ls hP hS (lv_sub hl [1, 2, 0] rfl)
  have hE := iq c_2_0 hE
  by_cases c_2_1 : (x1 - x1 / (6 : Int32) * (6 : Int32)) = (1 : Int32)
  · have hE := ip c_2_1 hE
    refine lv_tableIn (tgt := 44) (off := 32) hx hb dX2_happens_12 (by rw [c_2_1]; decide) (by rw [c_2_1]; decide) (by rw [c_2_1]; rfl) (by decide) ?_
    exact wX2_happens_J44 k z x1 v_1 hC y hE H locs ls hP hS (lv_sub hl [1, 2, 0] rfl)
  have hE := iq c_2_1 hE
  by_cases c_2_2 : (x1 - x1 / (6 : Int32) * (6 : Int32)) = (2 : Int32)
  · have hE := ip c_2_2 hE
    refine lv_tableIn (tgt := 84) (off := 72) hx hb dX2_happens_12 (by rw [c_2_2]; decide) (by rw [c_2_2]; decide) (by rw [c_2_2]; rfl) (by decide) ?_
    refine lv_aload_n hx hb dX2_happens_84 rfl (lv_at hl 1 rfl) ?_
    refine lv_iload_n hx hb dX2_happens_85 rfl (lv_at hl 0 rfl) ?_
    obtain ⟨r_12, h_12, hE⟩ := ob hE
    refine m_calli [.int v_1] hC hP hS hl.1 (wX2_isBar z v_1 r_12 h_12) (cwV 1 hts lkX2_300 rfl rfl rfl cdX2_isBar ⟨Nat.le_of_ble_eq_true rfl, Nat.le_of_ble_eq_true rfl⟩) rfl rfl (lv_room (Nat.le_of_ble_eq_true rfl)) dX2_happens_86 (fun H locs hP hS => ?_)
    refine lv_if_eq (tgt := 142) hx hb dX2_happens_89 (by decide) (fun c_13 => ?_) (fun c_13 => ?_)
    · have hE := ip c_13 hE
      obtain rfl := Option.some.inj hE
      exact m_vret hC hP hS dX2_happens_142
    · have hE := iq c_13 hE
      refine lv_aload_n hx hb dX2_happens_92 rfl (lv_at hl 1 rfl) ?_
      refine gM_7 hC hP dX2_happens_93 ?_
      refine lv_bipush (v := 9) hx hb dX2_happens_96 (by decide) ?_
      refine lv_iload_n hx hb dX2_happens_98 rfl (lv_at hl 0 rfl) ?_
      refine lv_iadd hx hb dX2_happens_99 ?_
      refine lv_iconst (v := 0) hx hb dX2_happens_100 (by decide) ?_
      obtain ⟨c_14, hE⟩ := og hE
      obtain ⟨z_14, ez_14, hE⟩ := on hE
      refine tM_0 hC hP hS c_14 ez_14 dX2_happens_101 (fun H locs hP hS => ?_)
      refine lv_goto (tgt := 142) hx hb dX2_happens_102 (by decide) ?_
      obtain rfl := Option.some.inj hE
      exact m_vret hC hP hS dX2_happens_142
  have hE := iq c_2_2 hE
  by_cases c_2_3 : (x1 - x1 / (6 : Int32) * (6 : Int32)) = (3 : Int32)
  · have hE := ip c_2_3 hE
    refine lv_tableIn (tgt := 105) (off := 93) hx hb dX2_happens_12 (by rw [c_2_3]; decide) (by rw [c_2_3]; decide) (by rw [c_2_3]; rfl) (by decide) ?_
    refine lv_aload_n hx hb dX2_happens_105 rfl (lv_at hl 1 rfl) ?_
    refine gM_7 hC hP dX2_happens_106 ?_
    refine lv_bipush (v := 9) hx hb dX2_happens_109 (by decide) ?_
    refine lv_iload_n hx hb dX2_happens_111 rfl (lv_at hl 0 rfl) ?_
    refine lv_iadd hx hb dX2_happens_112 ?_
    obtain ⟨c_15, hE⟩ := og hE
    refine aM_0 hC hP c_15 dX2_happens_113 ?_
    refine lv_if_ne (tgt := 142) hx hb dX2_happens_114 (by decide) (fun c_16 => ?_) (fun c_16 => ?_)
    · have hE := iq c_16 hE
      obtain rfl := Option.some.inj hE
      exact m_vret hC hP hS dX2_happens_142
    · have hE := ip c_16 hE
      refine lv_aload_n hx hb dX2_happens_117 rfl (lv_at hl 1 rfl) ?_
      refine lv_iload_n hx hb dX2_happens_118 rfl (lv_at hl 0 rfl) ?_
      obtain ⟨r_17, h_17, hE⟩ := ob hE
      refine m_callv [.int v_1] hC hP hS hl.1 (wX2_addNow z v_1 r_17 h_17) (cwV 1 hts lkX2_331 rfl rfl rfl cdX2_addNow ⟨Nat.le_of_ble_eq_true rfl, Nat.le_of_ble_eq_true rfl⟩) rfl rfl (lv_room (Nat.le_of_ble_eq_true rfl)) dX2_happens_119 (fun H locs hP hS => ?_)
      refine lv_goto (tgt := 142) hx hb dX2_happens_122 (by decide) ?_
      obtain rfl := Option.some.inj hE
      exact m_vret hC hP hS dX2_happens_142
  have hE := iq c_2_3 hE
  refine m_tdef (tgt := 125) hx hb dX2_happens_12 (by decide) (fun h1 h2 => ?_) ?_
  · have h3 : (x1 - x1 / (6 : Int32) * (6 : Int32)).toInt = 0 ∨ (x1 - x1 / (6 : Int32) * (6 : Int32)).toInt = 1 ∨ (x1 - x1 / (6 : Int32) * (6 : Int32)).toInt = 2 ∨ (x1 - x1 / (6 : Int32) * (6 : Int32)).toInt = 3 := by omega
    rcases h3 with h3 | h3 | h3 | h3
    · exact absurd (Int32.toInt_inj.mp (by rw [h3]; decide)) c_2_0
    · exact absurd (Int32.toInt_inj.mp (by rw [h3]; decide)) c_2_1
    · exact absurd (Int32.toInt_inj.mp (by rw [h3]; decide)) c_2_2
    · exact absurd (Int32.toInt_inj.mp (by rw [h3]; decide)) c_2_3
  refine lv_aload_n hx hb dX2_happens_125 rfl (lv_at hl 1 rfl) ?_
  refine gM_7 hC hP dX2_happens_126 ?_
  refine lv_bipush (v := 6) hx hb dX2_happens_129 (by decide) ?_
  refine aM_0 hC hP (i := (6 : Int32)) (by decide) dX2_happens_131 ?_
  refine lv_sipush (v := 9999) hx hb dX2_happens_132 (by decide) ?_
  refine lv_icmp_ge (tgt := 142) hx hb dX2_happens_135 (by decide) (fun c_19 => ?_) (fun c_19 => ?_)
  · have hE := ip c_19 hE
    obtain rfl := Option.some.inj hE
    exact m_vret hC hP hS dX2_happens_142
  · have hE := iq c_19 hE
    refine lv_aload_n hx hb dX2_happens_138 rfl (lv_at hl 1 rfl) ?_
    obtain ⟨r_20, h_20, hE⟩ := ob hE
    refine m_callv [] hC hP hS hl.1 (wX2_pass k z  r_20 h_20) (cwV 0 hts lkX2_334 rfl rfl rfl cdX2_pass ⟨Nat.le_of_ble_eq_true rfl, Nat.le_of_ble_eq_true rfl⟩) rfl rfl (lv_room (Nat.le_of_ble_eq_true rfl)) dX2_happens_139 (fun H locs hP hS => ?_)
    obtain rfl := Option.some.inj hE
    exact m_vret hC hP hS dX2_happens_142
def fX2_ages_B43 (k : Nat) (v2 : Int32) (a : Int32 × MS) : Option ((Int32 × MS) ⊕ MS) := if v2 ≤ a.1 then (some (.inr a.2)) else ((fX2_anew a.2 ).bind fun r_9 => (fX2_happens k r_9 (a.2.2.2.1 0 (7 : Int32).toNatClampNeg)).bind fun r_10 => some (.inl ((a.1 + (1 : Int32)), r_10)))
set_option maxHeartbeats 1000000 in
theorem wX2_ages_B43 {p : Program} {l : Launch} {e : Env} {s : State} {m : MethodId} {args : Array Value} {below : List Frame} {meth : Method} {c : Code} {E : ME} {Q : State → Prop} (k : Nat) (v2 : Int32) (hC : mC E cX2_ages 5 (some .int) p s m args meth c) (a : Int32 × MS) (y : (Int32 × MS) ⊕ MS) (hE : fX2_ages_B43 k v2 a = some y) (hc : ∀ a : Int32 × MS, y = .inl a → mW p l e rmX2_ages s m args below meth c E 5 Q 43 [(0, .ref (E.2.2.2.1 0)), (2, .int v2), (3, .int a.1)] [] a.2) (hx1 : ∀ b : MS, y = .inr b → mW p l e rmX2_ages s m args below meth c E 5 Q 73 [(0, .ref (E.2.2.2.1 0))] [] b) : mW p l e rmX2_ages s m args below meth c E 5 Q 43 [(0, .ref (E.2.2.2.1 0)), (2, .int v2), (3, .int a.1)] [] a.2 := by
  intro H locs ls hP hS hl
  have hx := hC.1
  have hb := hC.2.1
  have hown := hC.2.2.2.2.2.1
  have hts := hC.2.2.2.2.2.2.1
  unfold fX2_ages_B43 at hE
  refine lv_iload_n hx hb dX2_ages_43 rfl (lv_at hl 2 rfl) ?_
  refine lv_iload_n hx hb dX2_ages_44 rfl (lv_at hl 1 rfl) ?_
  refine lv_icmp_ge (tgt := 73) hx hb dX2_ages_45 (by decide) (fun c_7 => ?_) (fun c_7 => ?_)
  · have hE := ip c_7 hE
    exact hx1 _ (Option.some.inj hE).symm H locs ls hP hS (lv_sub hl [0] rfl)
  · have hE := iq c_7 hE
    refine lv_aload_n hx hb dX2_ages_48 rfl (lv_at hl 0 rfl) ?_
    refine gM_7 hC hP dX2_ages_49 ?_
    refine lv_bipush (v := 7) hx hb dX2_ages_52 (by decide) ?_
    refine aM_0 hC hP (i := (7 : Int32)) (by decide) dX2_ages_54 ?_
    refine lv_istore (lv' := [(4, .int (a.2.2.2.1 0 (7 : Int32).toNatClampNeg)), (0, .ref (E.2.2.2.1 0)), (2, .int v2), (3, .int a.1)]) hx hb dX2_ages_55 hl (Nat.le_of_ble_eq_true rfl) rfl (fun ls hl => ?_)
    refine lv_aload_n hx hb dX2_ages_57 rfl (lv_at hl 1 rfl) ?_
    obtain ⟨r_9, h_9, hE⟩ := ob hE
    refine m_callv [] hC hP hS hl.1 (wX2_anew a.2  r_9 h_9) (cwV 0 hts lkX2_291 rfl rfl rfl cdX2_anew ⟨Nat.le_of_ble_eq_true rfl, Nat.le_of_ble_eq_true rfl⟩) rfl rfl (lv_room (Nat.le_of_ble_eq_true rfl)) dX2_ages_58 (fun H locs hP hS => ?_)
    refine lv_aload_n hx hb dX2_ages_61 rfl (lv_at hl 1 rfl) ?_
    refine lv_iload hx hb dX2_ages_62 (lv_at hl 0 rfl) ?_
    obtain ⟨r_10, h_10, hE⟩ := ob hE
    refine m_callv [.int (a.2.2.2.1 0 (7 : Int32).toNatClampNeg)] hC hP hS hl.1 (wX2_happens k r_9 (a.2.2.2.1 0 (7 : Int32).toNatClampNeg) r_10 h_10) (cwV 1 hts lkX2_361 rfl rfl rfl cdX2_happens ⟨Nat.le_of_ble_eq_true rfl, Nat.le_of_ble_eq_true rfl⟩) rfl rfl (lv_room (Nat.le_of_ble_eq_true rfl)) dX2_ages_64 (fun H locs hP hS => ?_)
    refine lv_iinc (v := (a.1 + (1 : Int32))) (lv' := [(3, .int (a.1 + (1 : Int32))), (4, .int (a.2.2.2.1 0 (7 : Int32).toNatClampNeg)), (0, .ref (E.2.2.2.1 0)), (2, .int v2)]) hx hb dX2_ages_67 hl (k := 3) rfl rfl (Nat.le_of_ble_eq_true rfl) rfl (fun ls hl => ?_)
    refine lv_goto (tgt := 43) hx hb dX2_ages_70 (by decide) ?_
    exact hc _ (Option.some.inj hE).symm H locs ls hP hS (lv_sub hl [2, 3, 0] rfl)
def fX2_ages (k : Nat) (z : MS) (x1 : Int32) (x2 : Int32) : Option (Int32 × MS) := (fX2_isIn x1 (0 : Int32) (9999 : Int32)).bind fun r_1 => if r_1 = 0 then (some ((-1 : Int32), z)) else ((fX2_isIn x2 (1 : Int32) (40 : Int32)).bind fun r_3 => if r_3 = 0 then (some ((-1 : Int32), z)) else ((fX2_keep k z ).bind fun r_5 => nm (mA r_5 0 (upd (r_5.2.2.1 0) (7 : Int32).toNatClampNeg ((x1 * (2 : Int32)) + (263 : Int32)))) fun z_6 => (lpo (fX2_ages_B43 k x2) k ((0 : Int32), z_6)).bind fun x_11 => some ((x_11.2.2.1 0 (6 : Int32).toNatClampNeg), x_11)))
set_option maxHeartbeats 1000000 in
theorem wX2_ages {l : Launch} {E : ME} (k : Nat) (z : MS) (x1 : Int32) (x2 : Int32) (y : Int32 × MS) (hE : fX2_ages k z x1 x2 = some y) : mM l yX2_ages (ws_ yX2_ages cX2_ages 5 (some .int)) rmX2_ages E z [.int x1, .int x2] (some (.int y.1)) y.2 := by
  refine m_met (by decide) rfl (Nat.le_of_ble_eq_true rfl) (fun p e s m args below meth c hC => ?_)
  intro H locs ls hP hS hl
  have hx := hC.1
  have hb := hC.2.1
  have hown := hC.2.2.2.2.2.1
  have hts := hC.2.2.2.2.2.2.1
  have hl : lv_has ls 5 [(0, .ref (E.2.2.2.1 0)), (1, .int x1), (2, .int x2)] := hl
  unfold fX2_ages at hE
  refine lv_iload_n hx hb dX2_ages_0 rfl (lv_at hl 1 rfl) ?_
  refine lv_iconst (v := 0) hx hb dX2_ages_1 (by decide) ?_
  refine lv_sipush (v := 9999) hx hb dX2_ages_2 (by decide) ?_
  obtain ⟨r_1, h_1, hE⟩ := ob hE
  refine s_calli [.int x1, .int (0 : Int32), .int (9999 : Int32)] hC.sC hl.1 (wX2_isIn x1 (0 : Int32) (9999 : Int32) r_1 h_1) (va_cwS 3 hts lkX2_69 rfl rfl rfl cdX2_isIn ⟨Nat.le_of_ble_eq_true rfl, Nat.le_of_ble_eq_true rfl⟩) rfl rfl (lv_room (Nat.le_of_ble_eq_true rfl)) ⟨Nat.zero_le _, Nat.zero_le _⟩ dX2_ages_5 ?_
  refine lv_if_eq (tgt := 21) hx hb dX2_ages_8 (by decide) (fun c_2 => ?_) (fun c_2 => ?_)
  · have hE := ip c_2 hE
    refine lv_iconst (v := -1) hx hb dX2_ages_21 (by decide) ?_
    obtain rfl := Option.some.inj hE
    exact m_iret hC hP hS dX2_ages_22
  · have hE := iq c_2 hE
    refine lv_iload_n hx hb dX2_ages_11 rfl (lv_at hl 2 rfl) ?_
    refine lv_iconst (v := 1) hx hb dX2_ages_12 (by decide) ?_
    refine lv_bipush (v := 40) hx hb dX2_ages_13 (by decide) ?_
    obtain ⟨r_3, h_3, hE⟩ := ob hE
    refine s_calli [.int x2, .int (1 : Int32), .int (40 : Int32)] hC.sC hl.1 (wX2_isIn x2 (1 : Int32) (40 : Int32) r_3 h_3) (va_cwS 3 hts lkX2_69 rfl rfl rfl cdX2_isIn ⟨Nat.le_of_ble_eq_true rfl, Nat.le_of_ble_eq_true rfl⟩) rfl rfl (lv_room (Nat.le_of_ble_eq_true rfl)) ⟨Nat.zero_le _, Nat.zero_le _⟩ dX2_ages_15 ?_
    refine lv_if_ne (tgt := 23) hx hb dX2_ages_18 (by decide) (fun c_4 => ?_) (fun c_4 => ?_)
    · have hE := iq c_4 hE
      refine lv_aload_n hx hb dX2_ages_23 rfl (lv_at hl 0 rfl) ?_
      obtain ⟨r_5, h_5, hE⟩ := ob hE
      refine m_callv [] hC hP hS hl.1 (wX2_keep k z  r_5 h_5) (cwV 0 hts lkX2_328 rfl rfl rfl cdX2_keep ⟨Nat.le_of_ble_eq_true rfl, Nat.le_of_ble_eq_true rfl⟩) rfl rfl (lv_room (Nat.le_of_ble_eq_true rfl)) dX2_ages_24 (fun H locs hP hS => ?_)
      refine lv_aload_n hx hb dX2_ages_27 rfl (lv_at hl 0 rfl) ?_
      refine gM_7 hC hP dX2_ages_28 ?_
      refine lv_bipush (v := 7) hx hb dX2_ages_31 (by decide) ?_
      refine lv_iload_n hx hb dX2_ages_33 rfl (lv_at hl 1 rfl) ?_
      refine lv_iconst (v := 2) hx hb dX2_ages_34 (by decide) ?_
      refine lv_imul hx hb dX2_ages_35 ?_
      refine lv_sipush (v := 263) hx hb dX2_ages_36 (by decide) ?_
      refine lv_iadd hx hb dX2_ages_39 ?_
      obtain ⟨z_6, ez_6, hE⟩ := on hE
      refine tM_0 hC hP hS (i := (7 : Int32)) (by decide) ez_6 dX2_ages_40 (fun H locs hP hS => ?_)
      refine lv_iconst (v := 0) hx hb dX2_ages_41 (by decide) ?_
      refine lv_istore_n (lv' := [(3, .int (0 : Int32)), (0, .ref (E.2.2.2.1 0)), (1, .int x1), (2, .int x2)]) hx hb dX2_ages_42 rfl hl (Nat.le_of_ble_eq_true rfl) rfl (fun ls hl => ?_)
      obtain ⟨x_11, h_11, hE⟩ := ob hE
      refine lpo_walk (fun p_11 : Int32 × MS => mW p l e rmX2_ages s m args below meth c E 5 (mQ E below args s (some (.int y.1)) y.2) 43 [(0, .ref (E.2.2.2.1 0)), (2, .int x2), (3, .int p_11.1)] [] p_11.2) (fun q_11 : MS => mW p l e rmX2_ages s m args below meth c E 5 (mQ E below args s (some (.int y.1)) y.2) 73 [(0, .ref (E.2.2.2.1 0))] [] q_11) (fun a_11 y_11 hB_11 hc_11 hx_11 => wX2_ages_B43 k x2 hC a_11 y_11 hB_11 hc_11 hx_11) _ _ x_11 h_11 ?_ H locs ls hP hS (lv_sub hl [1, 3, 0] rfl)
      intro H locs ls hP hS hl
      refine lv_aload_n hx hb dX2_ages_73 rfl (lv_at hl 0 rfl) ?_
      refine gM_7 hC hP dX2_ages_74 ?_
      refine lv_bipush (v := 6) hx hb dX2_ages_77 (by decide) ?_
      refine aM_0 hC hP (i := (6 : Int32)) (by decide) dX2_ages_79 ?_
      obtain rfl := Option.some.inj hE
      exact m_iret hC hP hS dX2_ages_80
    · have hE := ip c_4 hE
      refine lv_iconst (v := -1) hx hb dX2_ages_21 (by decide) ?_
      obtain rfl := Option.some.inj hE
      exact m_iret hC hP hS dX2_ages_22
def fX2_of (z : MS) (x1 : Int32) (x2 : Int32) : Option Int32 := (fX2_isChild z x1).bind fun r_1 => if r_1 = 0 then (some (-2 : Int32)) else (if x2 = 0 then (if ib ((76 : Int32) + x1) 3205 then none else (some (z.2.2.1 0 ((76 : Int32) + x1).toNatClampNeg))) else (if x2 = (1 : Int32) then (if ib ((83 : Int32) + x1) 3205 then none else (some (z.2.2.1 0 ((83 : Int32) + x1).toNatClampNeg))) else (if x2 = (2 : Int32) then (if ib ((69 : Int32) + x1) 3205 then none else (some (z.2.2.1 0 ((69 : Int32) + x1).toNatClampNeg))) else (some (-2 : Int32)))))
set_option maxHeartbeats 1000000 in
theorem wX2_of {l : Launch} {E : ME} (z : MS) (x1 : Int32) (x2 : Int32) (y : Int32) (hE : fX2_of z x1 x2 = some y) : mM l yX2_of (ws_ yX2_of cX2_of 3 (some .int)) rmX2_of E z [.int x1, .int x2] (some (.int y)) z := by
  refine m_met (by decide) rfl (Nat.le_of_ble_eq_true rfl) (fun p e s m args below meth c hC => ?_)
  intro H locs ls hP hS hl
  have hx := hC.1
  have hb := hC.2.1
  have hown := hC.2.2.2.2.2.1
  have hts := hC.2.2.2.2.2.2.1
  have hl : lv_has ls 3 [(0, .ref (E.2.2.2.1 0)), (1, .int x1), (2, .int x2)] := hl
  unfold fX2_of at hE
  refine lv_aload_n hx hb dX2_of_0 rfl (lv_at hl 0 rfl) ?_
  refine lv_iload_n hx hb dX2_of_1 rfl (lv_at hl 1 rfl) ?_
  obtain ⟨r_1, h_1, hE⟩ := ob hE
  refine m_calli [.int x1] hC hP hS hl.1 (wX2_isChild z x1 r_1 h_1) (cwV 1 hts lkX2_322 rfl rfl rfl cdX2_isChild ⟨Nat.le_of_ble_eq_true rfl, Nat.le_of_ble_eq_true rfl⟩) rfl rfl (lv_room (Nat.le_of_ble_eq_true rfl)) dX2_of_2 (fun H locs hP hS => ?_)
  refine lv_if_ne (tgt := 11) hx hb dX2_of_5 (by decide) (fun c_2 => ?_) (fun c_2 => ?_)
  · have hE := iq c_2 hE
    refine lv_iload_n hx hb dX2_of_11 rfl (lv_at hl 2 rfl) ?_
    refine lv_if_ne (tgt := 27) hx hb dX2_of_12 (by decide) (fun c_3 => ?_) (fun c_3 => ?_)
    · have hE := iq c_3 hE
      refine lv_iload_n hx hb dX2_of_27 rfl (lv_at hl 2 rfl) ?_
      refine lv_iconst (v := 1) hx hb dX2_of_28 (by decide) ?_
      refine lv_icmp_ne (tgt := 44) hx hb dX2_of_29 (by decide) (fun c_4 => ?_) (fun c_4 => ?_)
      · have hE := iq c_4 hE
        refine lv_iload_n hx hb dX2_of_44 rfl (lv_at hl 2 rfl) ?_
        refine lv_iconst (v := 2) hx hb dX2_of_45 (by decide) ?_
        refine lv_icmp_ne (tgt := 61) hx hb dX2_of_46 (by decide) (fun c_5 => ?_) (fun c_5 => ?_)
        · have hE := iq c_5 hE
          refine lv_bipush (v := -2) hx hb dX2_of_61 (by decide) ?_
          obtain rfl := Option.some.inj hE
          exact m_iret hC hP hS dX2_of_63
        · have hE := ip c_5 hE
          refine lv_aload_n hx hb dX2_of_49 rfl (lv_at hl 0 rfl) ?_
          refine gM_7 hC hP dX2_of_50 ?_
          refine lv_bipush (v := 69) hx hb dX2_of_53 (by decide) ?_
          refine lv_iload_n hx hb dX2_of_55 rfl (lv_at hl 1 rfl) ?_
          refine lv_iadd hx hb dX2_of_56 ?_
          obtain ⟨c_6, hE⟩ := og hE
          refine aM_0 hC hP c_6 dX2_of_57 ?_
          refine lv_goto (tgt := 63) hx hb dX2_of_58 (by decide) ?_
          obtain rfl := Option.some.inj hE
          exact m_iret hC hP hS dX2_of_63
      · have hE := ip c_4 hE
        refine lv_aload_n hx hb dX2_of_32 rfl (lv_at hl 0 rfl) ?_
        refine gM_7 hC hP dX2_of_33 ?_
        refine lv_bipush (v := 83) hx hb dX2_of_36 (by decide) ?_
        refine lv_iload_n hx hb dX2_of_38 rfl (lv_at hl 1 rfl) ?_
        refine lv_iadd hx hb dX2_of_39 ?_
        obtain ⟨c_7, hE⟩ := og hE
        refine aM_0 hC hP c_7 dX2_of_40 ?_
        refine lv_goto (tgt := 63) hx hb dX2_of_41 (by decide) ?_
        obtain rfl := Option.some.inj hE
        exact m_iret hC hP hS dX2_of_63
    · have hE := ip c_3 hE
      refine lv_aload_n hx hb dX2_of_15 rfl (lv_at hl 0 rfl) ?_
      refine gM_7 hC hP dX2_of_16 ?_
      refine lv_bipush (v := 76) hx hb dX2_of_19 (by decide) ?_
      refine lv_iload_n hx hb dX2_of_21 rfl (lv_at hl 1 rfl) ?_
      refine lv_iadd hx hb dX2_of_22 ?_
      obtain ⟨c_8, hE⟩ := og hE
      refine aM_0 hC hP c_8 dX2_of_23 ?_
      refine lv_goto (tgt := 63) hx hb dX2_of_24 (by decide) ?_
      obtain rfl := Option.some.inj hE
      exact m_iret hC hP hS dX2_of_63
  · have hE := ip c_2 hE
    refine lv_bipush (v := -2) hx hb dX2_of_8 (by decide) ?_
    obtain rfl := Option.some.inj hE
    exact m_iret hC hP hS dX2_of_10
def fX2_ofBar (k : Nat) (z : MS) (x1 : Int32) (x2 : Int32) : Option (Int32 × MS) := (fX2_isPlace x1).bind fun r_1 => if r_1 = 0 then (some ((-1 : Int32), z)) else (if x2 = 0 then (if ib ((9 : Int32) + x1) 3205 then none else (some ((z.2.2.1 0 ((9 : Int32) + x1).toNatClampNeg), z))) else (if x2 = (1 : Int32) then (if ib ((39 : Int32) + x1) 3205 then none else (some ((z.2.2.1 0 ((39 : Int32) + x1).toNatClampNeg), z))) else (if x2 = (2 : Int32) then ((fX2_paintsOf k z x1).bind fun r_6 => some (r_6.1, r_6.2)) else (some ((-1 : Int32), z)))))
set_option maxHeartbeats 1000000 in
theorem wX2_ofBar {l : Launch} {E : ME} (k : Nat) (z : MS) (x1 : Int32) (x2 : Int32) (y : Int32 × MS) (hE : fX2_ofBar k z x1 x2 = some y) : mM l yX2_ofBar (ws_ yX2_ofBar cX2_ofBar 3 (some .int)) rmX2_ofBar E z [.int x1, .int x2] (some (.int y.1)) y.2 := by
  refine m_met (by decide) rfl (Nat.le_of_ble_eq_true rfl) (fun p e s m args below meth c hC => ?_)
  intro H locs ls hP hS hl
  have hx := hC.1
  have hb := hC.2.1
  have hown := hC.2.2.2.2.2.1
  have hts := hC.2.2.2.2.2.2.1
  have hl : lv_has ls 3 [(0, .ref (E.2.2.2.1 0)), (1, .int x1), (2, .int x2)] := hl
  unfold fX2_ofBar at hE
  refine lv_iload_n hx hb dX2_ofBar_0 rfl (lv_at hl 1 rfl) ?_
  obtain ⟨r_1, h_1, hE⟩ := ob hE
  refine s_calli [.int x1] hC.sC hl.1 (wX2_isPlace x1 r_1 h_1) (va_cwS 1 hts lkX2_73 rfl rfl rfl cdX2_isPlace ⟨Nat.le_of_ble_eq_true rfl, Nat.le_of_ble_eq_true rfl⟩) rfl rfl (lv_room (Nat.le_of_ble_eq_true rfl)) ⟨Nat.zero_le _, Nat.zero_le _⟩ dX2_ofBar_1 ?_
  refine lv_if_ne (tgt := 9) hx hb dX2_ofBar_4 (by decide) (fun c_2 => ?_) (fun c_2 => ?_)
  · have hE := iq c_2 hE
    refine lv_iload_n hx hb dX2_ofBar_9 rfl (lv_at hl 2 rfl) ?_
    refine lv_if_ne (tgt := 25) hx hb dX2_ofBar_10 (by decide) (fun c_3 => ?_) (fun c_3 => ?_)
    · have hE := iq c_3 hE
      refine lv_iload_n hx hb dX2_ofBar_25 rfl (lv_at hl 2 rfl) ?_
      refine lv_iconst (v := 1) hx hb dX2_ofBar_26 (by decide) ?_
      refine lv_icmp_ne (tgt := 42) hx hb dX2_ofBar_27 (by decide) (fun c_4 => ?_) (fun c_4 => ?_)
      · have hE := iq c_4 hE
        refine lv_iload_n hx hb dX2_ofBar_42 rfl (lv_at hl 2 rfl) ?_
        refine lv_iconst (v := 2) hx hb dX2_ofBar_43 (by decide) ?_
        refine lv_icmp_ne (tgt := 55) hx hb dX2_ofBar_44 (by decide) (fun c_5 => ?_) (fun c_5 => ?_)
        · have hE := iq c_5 hE
          refine lv_iconst (v := -1) hx hb dX2_ofBar_55 (by decide) ?_
          obtain rfl := Option.some.inj hE
          exact m_iret hC hP hS dX2_ofBar_56
        · have hE := ip c_5 hE
          refine lv_aload_n hx hb dX2_ofBar_47 rfl (lv_at hl 0 rfl) ?_
          refine lv_iload_n hx hb dX2_ofBar_48 rfl (lv_at hl 1 rfl) ?_
          obtain ⟨r_6, h_6, hE⟩ := ob hE
          refine m_calli [.int x1] hC hP hS hl.1 (wX2_paintsOf k z x1 r_6 h_6) (cwV 1 hts lkX2_319 rfl rfl rfl cdX2_paintsOf ⟨Nat.le_of_ble_eq_true rfl, Nat.le_of_ble_eq_true rfl⟩) rfl rfl (lv_room (Nat.le_of_ble_eq_true rfl)) dX2_ofBar_49 (fun H locs hP hS => ?_)
          refine lv_goto (tgt := 56) hx hb dX2_ofBar_52 (by decide) ?_
          obtain rfl := Option.some.inj hE
          exact m_iret hC hP hS dX2_ofBar_56
      · have hE := ip c_4 hE
        refine lv_aload_n hx hb dX2_ofBar_30 rfl (lv_at hl 0 rfl) ?_
        refine gM_7 hC hP dX2_ofBar_31 ?_
        refine lv_bipush (v := 39) hx hb dX2_ofBar_34 (by decide) ?_
        refine lv_iload_n hx hb dX2_ofBar_36 rfl (lv_at hl 1 rfl) ?_
        refine lv_iadd hx hb dX2_ofBar_37 ?_
        obtain ⟨c_7, hE⟩ := og hE
        refine aM_0 hC hP c_7 dX2_ofBar_38 ?_
        refine lv_goto (tgt := 56) hx hb dX2_ofBar_39 (by decide) ?_
        obtain rfl := Option.some.inj hE
        exact m_iret hC hP hS dX2_ofBar_56
    · have hE := ip c_3 hE
      refine lv_aload_n hx hb dX2_ofBar_13 rfl (lv_at hl 0 rfl) ?_
      refine gM_7 hC hP dX2_ofBar_14 ?_
      refine lv_bipush (v := 9) hx hb dX2_ofBar_17 (by decide) ?_
      refine lv_iload_n hx hb dX2_ofBar_19 rfl (lv_at hl 1 rfl) ?_
      refine lv_iadd hx hb dX2_ofBar_20 ?_
      obtain ⟨c_8, hE⟩ := og hE
      refine aM_0 hC hP c_8 dX2_ofBar_21 ?_
      refine lv_goto (tgt := 56) hx hb dX2_ofBar_22 (by decide) ?_
      obtain rfl := Option.some.inj hE
      exact m_iret hC hP hS dX2_ofBar_56
  · have hE := ip c_2 hE
    refine lv_iconst (v := -1) hx hb dX2_ofBar_7 (by decide) ?_
    obtain rfl := Option.some.inj hE
    exact m_iret hC hP hS dX2_ofBar_8
def fX2_catches (k : Nat) (z : MS) (x1 : Int32) (x2 : Int32) (x3 : Int32) : Option (Int32 × MS) := (fX2_isChild z x1).bind fun r_1 => if r_1 = 0 then (some ((-1 : Int32), z)) else ((fX2_isPlace x2).bind fun r_3 => if r_3 = 0 then (some ((-1 : Int32), z)) else ((fX2_isIn x3 (1 : Int32) (60 : Int32)).bind fun r_5 => if r_5 = 0 then (some ((-1 : Int32), z)) else ((fX2_catchesOf k z (z.2.2.1 0 (2 : Int32).toNatClampNeg) x1 x2 x3).bind fun r_8 => some (r_8.1, r_8.2))))
set_option maxHeartbeats 1000000 in
theorem wX2_catches {l : Launch} {E : ME} (k : Nat) (z : MS) (x1 : Int32) (x2 : Int32) (x3 : Int32) (y : Int32 × MS) (hE : fX2_catches k z x1 x2 x3 = some y) : mM l yX2_catches (ws_ yX2_catches cX2_catches 4 (some .int)) rmX2_catches E z [.int x1, .int x2, .int x3] (some (.int y.1)) y.2 := by
  refine m_met (by decide) rfl (Nat.le_of_ble_eq_true rfl) (fun p e s m args below meth c hC => ?_)
  intro H locs ls hP hS hl
  have hx := hC.1
  have hb := hC.2.1
  have hown := hC.2.2.2.2.2.1
  have hts := hC.2.2.2.2.2.2.1
  have hl : lv_has ls 4 [(0, .ref (E.2.2.2.1 0)), (1, .int x1), (2, .int x2), (3, .int x3)] := hl
  unfold fX2_catches at hE
  refine lv_aload_n hx hb dX2_catches_0 rfl (lv_at hl 0 rfl) ?_
  refine lv_iload_n hx hb dX2_catches_1 rfl (lv_at hl 1 rfl) ?_
  obtain ⟨r_1, h_1, hE⟩ := ob hE
  refine m_calli [.int x1] hC hP hS hl.1 (wX2_isChild z x1 r_1 h_1) (cwV 1 hts lkX2_322 rfl rfl rfl cdX2_isChild ⟨Nat.le_of_ble_eq_true rfl, Nat.le_of_ble_eq_true rfl⟩) rfl rfl (lv_room (Nat.le_of_ble_eq_true rfl)) dX2_catches_2 (fun H locs hP hS => ?_)
  refine lv_if_eq (tgt := 41) hx hb dX2_catches_5 (by decide) (fun c_2 => ?_) (fun c_2 => ?_)
  · have hE := ip c_2 hE
    refine lv_iconst (v := -1) hx hb dX2_catches_41 (by decide) ?_
    obtain rfl := Option.some.inj hE
    exact m_iret hC hP hS dX2_catches_42
  · have hE := iq c_2 hE
    refine lv_iload_n hx hb dX2_catches_8 rfl (lv_at hl 2 rfl) ?_
    obtain ⟨r_3, h_3, hE⟩ := ob hE
    refine s_calli [.int x2] hC.sC hl.1 (wX2_isPlace x2 r_3 h_3) (va_cwS 1 hts lkX2_73 rfl rfl rfl cdX2_isPlace ⟨Nat.le_of_ble_eq_true rfl, Nat.le_of_ble_eq_true rfl⟩) rfl rfl (lv_room (Nat.le_of_ble_eq_true rfl)) ⟨Nat.zero_le _, Nat.zero_le _⟩ dX2_catches_9 ?_
    refine lv_if_eq (tgt := 41) hx hb dX2_catches_12 (by decide) (fun c_4 => ?_) (fun c_4 => ?_)
    · have hE := ip c_4 hE
      refine lv_iconst (v := -1) hx hb dX2_catches_41 (by decide) ?_
      obtain rfl := Option.some.inj hE
      exact m_iret hC hP hS dX2_catches_42
    · have hE := iq c_4 hE
      refine lv_iload_n hx hb dX2_catches_15 rfl (lv_at hl 3 rfl) ?_
      refine lv_iconst (v := 1) hx hb dX2_catches_16 (by decide) ?_
      refine lv_bipush (v := 60) hx hb dX2_catches_17 (by decide) ?_
      obtain ⟨r_5, h_5, hE⟩ := ob hE
      refine s_calli [.int x3, .int (1 : Int32), .int (60 : Int32)] hC.sC hl.1 (wX2_isIn x3 (1 : Int32) (60 : Int32) r_5 h_5) (va_cwS 3 hts lkX2_69 rfl rfl rfl cdX2_isIn ⟨Nat.le_of_ble_eq_true rfl, Nat.le_of_ble_eq_true rfl⟩) rfl rfl (lv_room (Nat.le_of_ble_eq_true rfl)) ⟨Nat.zero_le _, Nat.zero_le _⟩ dX2_catches_19 ?_
      refine lv_if_eq (tgt := 41) hx hb dX2_catches_22 (by decide) (fun c_6 => ?_) (fun c_6 => ?_)
      · have hE := ip c_6 hE
        refine lv_iconst (v := -1) hx hb dX2_catches_41 (by decide) ?_
        obtain rfl := Option.some.inj hE
        exact m_iret hC hP hS dX2_catches_42
      · have hE := iq c_6 hE
        refine lv_aload_n hx hb dX2_catches_25 rfl (lv_at hl 0 rfl) ?_
        refine lv_aload_n hx hb dX2_catches_26 rfl (lv_at hl 0 rfl) ?_
        refine gM_7 hC hP dX2_catches_27 ?_
        refine lv_iconst (v := 2) hx hb dX2_catches_30 (by decide) ?_
        refine aM_0 hC hP (i := (2 : Int32)) (by decide) dX2_catches_31 ?_
        refine lv_iload_n hx hb dX2_catches_32 rfl (lv_at hl 1 rfl) ?_
        refine lv_iload_n hx hb dX2_catches_33 rfl (lv_at hl 2 rfl) ?_
        refine lv_iload_n hx hb dX2_catches_34 rfl (lv_at hl 3 rfl) ?_
        obtain ⟨r_8, h_8, hE⟩ := ob hE
        refine m_calli [.int (z.2.2.1 0 (2 : Int32).toNatClampNeg), .int x1, .int x2, .int x3] hC hP hS hl.1 (wX2_catchesOf k z (z.2.2.1 0 (2 : Int32).toNatClampNeg) x1 x2 x3 r_8 h_8) (cwV 4 hts lkX2_303 rfl rfl rfl cdX2_catchesOf ⟨Nat.le_of_ble_eq_true rfl, Nat.le_of_ble_eq_true rfl⟩) rfl rfl (lv_room (Nat.le_of_ble_eq_true rfl)) dX2_catches_35 (fun H locs hP hS => ?_)
        refine lv_goto (tgt := 42) hx hb dX2_catches_38 (by decide) ?_
        obtain rfl := Option.some.inj hE
        exact m_iret hC hP hS dX2_catches_42
def fX2_barsFrom_B5 (k : Nat) (v1 : Int32) (v2 : Int32) (w : MS) (a : Int32 × Int32) : Option ((Int32 × Int32) ⊕ Int32) := if v2 ≤ a.2 then (some (.inr a.1)) else ((fX2_isBar w ((v1 + a.2) - (v1 + a.2) / (30 : Int32) * (30 : Int32))).bind fun r_2 => if r_2 = 0 then (some (.inl ((a.1 + (0 : Int32)), (a.2 + (1 : Int32))))) else (some (.inl ((a.1 + (1 : Int32)), (a.2 + (1 : Int32))))))
set_option maxHeartbeats 1000000 in
theorem wX2_barsFrom_B5 {p : Program} {l : Launch} {e : Env} {s : State} {m : MethodId} {args : Array Value} {below : List Frame} {meth : Method} {c : Code} {E : ME} {Q : State → Prop} (k : Nat) (v1 : Int32) (v2 : Int32) (w : MS) (hC : mC E cX2_barsFrom 5 (some .int) p s m args meth c) (a : Int32 × Int32) (y : (Int32 × Int32) ⊕ Int32) (hE : fX2_barsFrom_B5 k v1 v2 w a = some y) (hc : ∀ a : Int32 × Int32, y = .inl a → mW p l e rmX2_barsFrom s m args below meth c E 5 Q 5 [(0, .ref (E.2.2.2.1 0)), (1, .int v1), (2, .int v2), (3, .int a.1), (4, .int a.2)] [] w) (hx1 : ∀ b : Int32, y = .inr b → mW p l e rmX2_barsFrom s m args below meth c E 5 Q 39 [(3, .int b)] [] w) : mW p l e rmX2_barsFrom s m args below meth c E 5 Q 5 [(0, .ref (E.2.2.2.1 0)), (1, .int v1), (2, .int v2), (3, .int a.1), (4, .int a.2)] [] w := by
  intro H locs ls hP hS hl
  have hx := hC.1
  have hb := hC.2.1
  have hown := hC.2.2.2.2.2.1
  have hts := hC.2.2.2.2.2.2.1
  unfold fX2_barsFrom_B5 at hE
  refine lv_iload hx hb dX2_barsFrom_5 (lv_at hl 4 rfl) ?_
  refine lv_iload_n hx hb dX2_barsFrom_7 rfl (lv_at hl 2 rfl) ?_
  refine lv_icmp_ge (tgt := 39) hx hb dX2_barsFrom_8 (by decide) (fun c_1 => ?_) (fun c_1 => ?_)
  · have hE := ip c_1 hE
    exact hx1 _ (Option.some.inj hE).symm H locs ls hP hS (lv_sub hl [3] rfl)
  · have hE := iq c_1 hE
    refine lv_iload_n hx hb dX2_barsFrom_11 rfl (lv_at hl 3 rfl) ?_
    refine lv_aload_n hx hb dX2_barsFrom_12 rfl (lv_at hl 0 rfl) ?_
    refine lv_iload_n hx hb dX2_barsFrom_13 rfl (lv_at hl 1 rfl) ?_
    refine lv_iload hx hb dX2_barsFrom_14 (lv_at hl 4 rfl) ?_
    refine lv_iadd hx hb dX2_barsFrom_16 ?_
    refine lv_bipush (v := 30) hx hb dX2_barsFrom_17 (by decide) ?_
    refine lv_irem hx hb dX2_barsFrom_19 (by decide) ?_
    obtain ⟨r_2, h_2, hE⟩ := ob hE
    refine m_calli [.int ((v1 + a.2) - (v1 + a.2) / (30 : Int32) * (30 : Int32))] hC hP hS hl.1 (wX2_isBar w ((v1 + a.2) - (v1 + a.2) / (30 : Int32) * (30 : Int32)) r_2 h_2) (cwV 1 hts lkX2_300 rfl rfl rfl cdX2_isBar ⟨Nat.le_of_ble_eq_true rfl, Nat.le_of_ble_eq_true rfl⟩) rfl rfl (lv_room (Nat.le_of_ble_eq_true rfl)) dX2_barsFrom_20 (fun H locs hP hS => ?_)
    refine lv_if_eq (tgt := 30) hx hb dX2_barsFrom_23 (by decide) (fun c_3 => ?_) (fun c_3 => ?_)
    · have hE := ip c_3 hE
      refine lv_iconst (v := 0) hx hb dX2_barsFrom_30 (by decide) ?_
      refine lv_iadd hx hb dX2_barsFrom_31 ?_
      refine lv_istore_n (lv' := [(3, .int (a.1 + (0 : Int32))), (0, .ref (E.2.2.2.1 0)), (1, .int v1), (2, .int v2), (4, .int a.2)]) hx hb dX2_barsFrom_32 rfl hl (Nat.le_of_ble_eq_true rfl) rfl (fun ls hl => ?_)
      refine lv_iinc (v := (a.2 + (1 : Int32))) (lv' := [(4, .int (a.2 + (1 : Int32))), (3, .int (a.1 + (0 : Int32))), (0, .ref (E.2.2.2.1 0)), (1, .int v1), (2, .int v2)]) hx hb dX2_barsFrom_33 hl (k := 4) rfl rfl (Nat.le_of_ble_eq_true rfl) rfl (fun ls hl => ?_)
      refine lv_goto (tgt := 5) hx hb dX2_barsFrom_36 (by decide) ?_
      exact hc _ (Option.some.inj hE).symm H locs ls hP hS (lv_sub hl [2, 3, 4, 1, 0] rfl)
    · have hE := iq c_3 hE
      refine lv_iconst (v := 1) hx hb dX2_barsFrom_26 (by decide) ?_
      refine lv_goto (tgt := 31) hx hb dX2_barsFrom_27 (by decide) ?_
      refine lv_iadd hx hb dX2_barsFrom_31 ?_
      refine lv_istore_n (lv' := [(3, .int (a.1 + (1 : Int32))), (0, .ref (E.2.2.2.1 0)), (1, .int v1), (2, .int v2), (4, .int a.2)]) hx hb dX2_barsFrom_32 rfl hl (Nat.le_of_ble_eq_true rfl) rfl (fun ls hl => ?_)
      refine lv_iinc (v := (a.2 + (1 : Int32))) (lv' := [(4, .int (a.2 + (1 : Int32))), (3, .int (a.1 + (1 : Int32))), (0, .ref (E.2.2.2.1 0)), (1, .int v1), (2, .int v2)]) hx hb dX2_barsFrom_33 hl (k := 4) rfl rfl (Nat.le_of_ble_eq_true rfl) rfl (fun ls hl => ?_)
      refine lv_goto (tgt := 5) hx hb dX2_barsFrom_36 (by decide) ?_
      exact hc _ (Option.some.inj hE).symm H locs ls hP hS (lv_sub hl [2, 3, 4, 1, 0] rfl)
def fX2_barsFrom (k : Nat) (z : MS) (x1 : Int32) (x2 : Int32) : Option Int32 := (lpo (fX2_barsFrom_B5 k x1 x2 z) k ((0 : Int32), (0 : Int32))).bind fun x_4 => some x_4
set_option maxHeartbeats 1000000 in
theorem wX2_barsFrom {l : Launch} {E : ME} (k : Nat) (z : MS) (x1 : Int32) (x2 : Int32) (y : Int32) (hE : fX2_barsFrom k z x1 x2 = some y) : mM l yX2_barsFrom (ws_ yX2_barsFrom cX2_barsFrom 5 (some .int)) rmX2_barsFrom E z [.int x1, .int x2] (some (.int y)) z := by
  refine m_met (by decide) rfl (Nat.le_of_ble_eq_true rfl) (fun p e s m args below meth c hC => ?_)
  intro H locs ls hP hS hl
  have hx := hC.1
  have hb := hC.2.1
  have hown := hC.2.2.2.2.2.1
  have hts := hC.2.2.2.2.2.2.1
  have hl : lv_has ls 5 [(0, .ref (E.2.2.2.1 0)), (1, .int x1), (2, .int x2)] := hl
  unfold fX2_barsFrom at hE
  refine lv_iconst (v := 0) hx hb dX2_barsFrom_0 (by decide) ?_
  refine lv_istore_n (lv' := [(3, .int (0 : Int32)), (0, .ref (E.2.2.2.1 0)), (1, .int x1), (2, .int x2)]) hx hb dX2_barsFrom_1 rfl hl (Nat.le_of_ble_eq_true rfl) rfl (fun ls hl => ?_)
  refine lv_iconst (v := 0) hx hb dX2_barsFrom_2 (by decide) ?_
  refine lv_istore (lv' := [(4, .int (0 : Int32)), (3, .int (0 : Int32)), (0, .ref (E.2.2.2.1 0)), (1, .int x1), (2, .int x2)]) hx hb dX2_barsFrom_3 hl (Nat.le_of_ble_eq_true rfl) rfl (fun ls hl => ?_)
  obtain ⟨x_4, h_4, hE⟩ := ob hE
  refine lpo_walk (fun p_4 : Int32 × Int32 => mW p l e rmX2_barsFrom s m args below meth c E 5 (mQ E below args s (some (.int y)) z) 5 [(0, .ref (E.2.2.2.1 0)), (1, .int x1), (2, .int x2), (3, .int p_4.1), (4, .int p_4.2)] [] z) (fun q_4 : Int32 => mW p l e rmX2_barsFrom s m args below meth c E 5 (mQ E below args s (some (.int y)) z) 39 [(3, .int q_4)] [] z) (fun a_4 y_4 hB_4 hc_4 hx_4 => wX2_barsFrom_B5 k x1 x2 z hC a_4 y_4 hB_4 hc_4 hx_4) _ _ x_4 h_4 ?_ H locs ls hP hS (lv_sub hl [2, 3, 4, 1, 0] rfl)
  intro H locs ls hP hS hl
  refine lv_iload_n hx hb dX2_barsFrom_39 rfl (lv_at hl 0 rfl) ?_
  obtain rfl := Option.some.inj hE
  exact m_iret hC hP hS dX2_barsFrom_40
def fX2_numberless_B4 (k : Nat)  (w : MS) (a : Int32 × Int32) : Option ((Int32 × Int32) ⊕ Int32) := if (w.2.2.1 0 (0 : Int32).toNatClampNeg) ≤ a.2 then (some (.inr a.1)) else (if ib ((69 : Int32) + a.2) 3205 then none else (if (w.2.2.1 0 ((69 : Int32) + a.2).toNatClampNeg) = (-1 : Int32) then (some (.inl ((a.1 ||| ((1 : Int32) <<< (a.2 &&& 31))), (a.2 + (1 : Int32))))) else (some (.inl ((a.1 ||| (0 : Int32)), (a.2 + (1 : Int32)))))))
set_option maxHeartbeats 1000000 in
theorem wX2_numberless_B4 {p : Program} {l : Launch} {e : Env} {s : State} {m : MethodId} {args : Array Value} {below : List Frame} {meth : Method} {c : Code} {E : ME} {Q : State → Prop} (k : Nat)  (w : MS) (hC : mC E cX2_numberless 3 (some .int) p s m args meth c) (a : Int32 × Int32) (y : (Int32 × Int32) ⊕ Int32) (hE : fX2_numberless_B4 k  w a = some y) (hc : ∀ a : Int32 × Int32, y = .inl a → mW p l e rmX2_numberless s m args below meth c E 3 Q 4 [(0, .ref (E.2.2.2.1 0)), (1, .int a.1), (2, .int a.2)] [] w) (hx1 : ∀ b : Int32, y = .inr b → mW p l e rmX2_numberless s m args below meth c E 3 Q 43 [(1, .int b)] [] w) : mW p l e rmX2_numberless s m args below meth c E 3 Q 4 [(0, .ref (E.2.2.2.1 0)), (1, .int a.1), (2, .int a.2)] [] w := by
  intro H locs ls hP hS hl
  have hx := hC.1
  have hb := hC.2.1
  have hown := hC.2.2.2.2.2.1
  have hts := hC.2.2.2.2.2.2.1
  unfold fX2_numberless_B4 at hE
  refine lv_iload_n hx hb dX2_numberless_4 rfl (lv_at hl 2 rfl) ?_
  refine lv_aload_n hx hb dX2_numberless_5 rfl (lv_at hl 0 rfl) ?_
  refine gM_7 hC hP dX2_numberless_6 ?_
  refine lv_iconst (v := 0) hx hb dX2_numberless_9 (by decide) ?_
  refine aM_0 hC hP (i := (0 : Int32)) (by decide) dX2_numberless_10 ?_
  refine lv_icmp_ge (tgt := 43) hx hb dX2_numberless_11 (by decide) (fun c_2 => ?_) (fun c_2 => ?_)
  · have hE := ip c_2 hE
    exact hx1 _ (Option.some.inj hE).symm H locs ls hP hS (lv_sub hl [1] rfl)
  · have hE := iq c_2 hE
    refine lv_iload_n hx hb dX2_numberless_14 rfl (lv_at hl 1 rfl) ?_
    refine lv_aload_n hx hb dX2_numberless_15 rfl (lv_at hl 0 rfl) ?_
    refine gM_7 hC hP dX2_numberless_16 ?_
    refine lv_bipush (v := 69) hx hb dX2_numberless_19 (by decide) ?_
    refine lv_iload_n hx hb dX2_numberless_21 rfl (lv_at hl 2 rfl) ?_
    refine lv_iadd hx hb dX2_numberless_22 ?_
    obtain ⟨c_3, hE⟩ := og hE
    refine aM_0 hC hP c_3 dX2_numberless_23 ?_
    refine lv_iconst (v := -1) hx hb dX2_numberless_24 (by decide) ?_
    refine lv_icmp_ne (tgt := 34) hx hb dX2_numberless_25 (by decide) (fun c_4 => ?_) (fun c_4 => ?_)
    · have hE := iq c_4 hE
      refine lv_iconst (v := 0) hx hb dX2_numberless_34 (by decide) ?_
      refine lv_ior hx hb dX2_numberless_35 ?_
      refine lv_istore_n (lv' := [(1, .int (a.1 ||| (0 : Int32))), (0, .ref (E.2.2.2.1 0)), (2, .int a.2)]) hx hb dX2_numberless_36 rfl hl (Nat.le_of_ble_eq_true rfl) rfl (fun ls hl => ?_)
      refine lv_iinc (v := (a.2 + (1 : Int32))) (lv' := [(2, .int (a.2 + (1 : Int32))), (1, .int (a.1 ||| (0 : Int32))), (0, .ref (E.2.2.2.1 0))]) hx hb dX2_numberless_37 hl (k := 2) rfl rfl (Nat.le_of_ble_eq_true rfl) rfl (fun ls hl => ?_)
      refine lv_goto (tgt := 4) hx hb dX2_numberless_40 (by decide) ?_
      exact hc _ (Option.some.inj hE).symm H locs ls hP hS (lv_sub hl [2, 1, 0] rfl)
    · have hE := ip c_4 hE
      refine lv_iconst (v := 1) hx hb dX2_numberless_28 (by decide) ?_
      refine lv_iload_n hx hb dX2_numberless_29 rfl (lv_at hl 2 rfl) ?_
      refine lv_ishl hx hb dX2_numberless_30 ?_
      refine lv_goto (tgt := 35) hx hb dX2_numberless_31 (by decide) ?_
      refine lv_ior hx hb dX2_numberless_35 ?_
      refine lv_istore_n (lv' := [(1, .int (a.1 ||| ((1 : Int32) <<< (a.2 &&& 31)))), (0, .ref (E.2.2.2.1 0)), (2, .int a.2)]) hx hb dX2_numberless_36 rfl hl (Nat.le_of_ble_eq_true rfl) rfl (fun ls hl => ?_)
      refine lv_iinc (v := (a.2 + (1 : Int32))) (lv' := [(2, .int (a.2 + (1 : Int32))), (1, .int (a.1 ||| ((1 : Int32) <<< (a.2 &&& 31)))), (0, .ref (E.2.2.2.1 0))]) hx hb dX2_numberless_37 hl (k := 2) rfl rfl (Nat.le_of_ble_eq_true rfl) rfl (fun ls hl => ?_)
      refine lv_goto (tgt := 4) hx hb dX2_numberless_40 (by decide) ?_
      exact hc _ (Option.some.inj hE).symm H locs ls hP hS (lv_sub hl [2, 1, 0] rfl)
def fX2_numberless (k : Nat) (z : MS)  : Option Int32 := (lpo (fX2_numberless_B4 k  z) k ((0 : Int32), (0 : Int32))).bind fun x_5 => some x_5
set_option maxHeartbeats 1000000 in
theorem wX2_numberless {l : Launch} {E : ME} (k : Nat) (z : MS)  (y : Int32) (hE : fX2_numberless k z  = some y) : mM l yX2_numberless (ws_ yX2_numberless cX2_numberless 3 (some .int)) rmX2_numberless E z [] (some (.int y)) z := by
  refine m_met (by decide) rfl (Nat.le_of_ble_eq_true rfl) (fun p e s m args below meth c hC => ?_)
  intro H locs ls hP hS hl
  have hx := hC.1
  have hb := hC.2.1
  have hown := hC.2.2.2.2.2.1
  have hts := hC.2.2.2.2.2.2.1
  have hl : lv_has ls 3 [(0, .ref (E.2.2.2.1 0))] := hl
  unfold fX2_numberless at hE
  refine lv_iconst (v := 0) hx hb dX2_numberless_0 (by decide) ?_
  refine lv_istore_n (lv' := [(1, .int (0 : Int32)), (0, .ref (E.2.2.2.1 0))]) hx hb dX2_numberless_1 rfl hl (Nat.le_of_ble_eq_true rfl) rfl (fun ls hl => ?_)
  refine lv_iconst (v := 0) hx hb dX2_numberless_2 (by decide) ?_
  refine lv_istore_n (lv' := [(2, .int (0 : Int32)), (1, .int (0 : Int32)), (0, .ref (E.2.2.2.1 0))]) hx hb dX2_numberless_3 rfl hl (Nat.le_of_ble_eq_true rfl) rfl (fun ls hl => ?_)
  obtain ⟨x_5, h_5, hE⟩ := ob hE
  refine lpo_walk (fun p_5 : Int32 × Int32 => mW p l e rmX2_numberless s m args below meth c E 3 (mQ E below args s (some (.int y)) z) 4 [(0, .ref (E.2.2.2.1 0)), (1, .int p_5.1), (2, .int p_5.2)] [] z) (fun q_5 : Int32 => mW p l e rmX2_numberless s m args below meth c E 3 (mQ E below args s (some (.int y)) z) 43 [(1, .int q_5)] [] z) (fun a_5 y_5 hB_5 hc_5 hx_5 => wX2_numberless_B4 k  z hC a_5 y_5 hB_5 hc_5 hx_5) _ _ x_5 h_5 ?_ H locs ls hP hS (lv_sub hl [2, 1, 0] rfl)
  intro H locs ls hP hS hl
  refine lv_iload_n hx hb dX2_numberless_43 rfl (lv_at hl 0 rfl) ?_
  obtain rfl := Option.some.inj hE
  exact m_iret hC hP hS dX2_numberless_44
def fX2_is (k : Nat) (z : MS) (x1 : Int32) : Option Int32 := if x1 = 0 then (some (z.2.2.1 0 (6 : Int32).toNatClampNeg)) else (if x1 = (1 : Int32) then (some (z.2.2.1 0 (7 : Int32).toNatClampNeg)) else (if x1 = (2 : Int32) then ((fX2_barsFrom k z (0 : Int32) (30 : Int32)).bind fun r_6 => some r_6) else (if x1 = (3 : Int32) then ((fX2_numberless k z ).bind fun r_5 => some r_5) else (some (-2 : Int32)))))
set_option maxHeartbeats 1000000 in
theorem wX2_is {l : Launch} {E : ME} (k : Nat) (z : MS) (x1 : Int32) (y : Int32) (hE : fX2_is k z x1 = some y) : mM l yX2_is (ws_ yX2_is cX2_is 2 (some .int)) rmX2_is E z [.int x1] (some (.int y)) z := by
  refine m_met (by decide) rfl (Nat.le_of_ble_eq_true rfl) (fun p e s m args below meth c hC => ?_)
  intro H locs ls hP hS hl
  have hx := hC.1
  have hb := hC.2.1
  have hown := hC.2.2.2.2.2.1
  have hts := hC.2.2.2.2.2.2.1
  have hl : lv_has ls 2 [(0, .ref (E.2.2.2.1 0)), (1, .int x1)] := hl
  unfold fX2_is at hE
  refine lv_iload_n hx hb dX2_is_0 rfl (lv_at hl 1 rfl) ?_
  refine lv_if_ne (tgt := 14) hx hb dX2_is_1 (by decide) (fun c_1 => ?_) (fun c_1 => ?_)
  · have hE := iq c_1 hE
    refine lv_iload_n hx hb dX2_is_14 rfl (lv_at hl 1 rfl) ?_
    refine lv_iconst (v := 1) hx hb dX2_is_15 (by decide) ?_
    refine lv_icmp_ne (tgt := 29) hx hb dX2_is_16 (by decide) (fun c_2 => ?_) (fun c_2 => ?_)
    · have hE := iq c_2 hE
      refine lv_iload_n hx hb dX2_is_29 rfl (lv_at hl 1 rfl) ?_
      refine lv_iconst (v := 2) hx hb dX2_is_30 (by decide) ?_
      refine lv_icmp_ne (tgt := 44) hx hb dX2_is_31 (by decide) (fun c_3 => ?_) (fun c_3 => ?_)
      · have hE := iq c_3 hE
        refine lv_iload_n hx hb dX2_is_44 rfl (lv_at hl 1 rfl) ?_
        refine lv_iconst (v := 3) hx hb dX2_is_45 (by decide) ?_
        refine lv_icmp_ne (tgt := 56) hx hb dX2_is_46 (by decide) (fun c_4 => ?_) (fun c_4 => ?_)
        · have hE := iq c_4 hE
          refine lv_bipush (v := -2) hx hb dX2_is_56 (by decide) ?_
          obtain rfl := Option.some.inj hE
          exact m_iret hC hP hS dX2_is_58
        · have hE := ip c_4 hE
          refine lv_aload_n hx hb dX2_is_49 rfl (lv_at hl 0 rfl) ?_
          obtain ⟨r_5, h_5, hE⟩ := ob hE
          refine m_calli [] hC hP hS hl.1 (wX2_numberless k z  r_5 h_5) (cwV 0 hts lkX2_367 rfl rfl rfl cdX2_numberless ⟨Nat.le_of_ble_eq_true rfl, Nat.le_of_ble_eq_true rfl⟩) rfl rfl (lv_room (Nat.le_of_ble_eq_true rfl)) dX2_is_50 (fun H locs hP hS => ?_)
          refine lv_goto (tgt := 58) hx hb dX2_is_53 (by decide) ?_
          obtain rfl := Option.some.inj hE
          exact m_iret hC hP hS dX2_is_58
      · have hE := ip c_3 hE
        refine lv_aload_n hx hb dX2_is_34 rfl (lv_at hl 0 rfl) ?_
        refine lv_iconst (v := 0) hx hb dX2_is_35 (by decide) ?_
        refine lv_bipush (v := 30) hx hb dX2_is_36 (by decide) ?_
        obtain ⟨r_6, h_6, hE⟩ := ob hE
        refine m_calli [.int (0 : Int32), .int (30 : Int32)] hC hP hS hl.1 (wX2_barsFrom k z (0 : Int32) (30 : Int32) r_6 h_6) (cwV 2 hts lkX2_364 rfl rfl rfl cdX2_barsFrom ⟨Nat.le_of_ble_eq_true rfl, Nat.le_of_ble_eq_true rfl⟩) rfl rfl (lv_room (Nat.le_of_ble_eq_true rfl)) dX2_is_38 (fun H locs hP hS => ?_)
        refine lv_goto (tgt := 58) hx hb dX2_is_41 (by decide) ?_
        obtain rfl := Option.some.inj hE
        exact m_iret hC hP hS dX2_is_58
    · have hE := ip c_2 hE
      refine lv_aload_n hx hb dX2_is_19 rfl (lv_at hl 0 rfl) ?_
      refine gM_7 hC hP dX2_is_20 ?_
      refine lv_bipush (v := 7) hx hb dX2_is_23 (by decide) ?_
      refine aM_0 hC hP (i := (7 : Int32)) (by decide) dX2_is_25 ?_
      refine lv_goto (tgt := 58) hx hb dX2_is_26 (by decide) ?_
      obtain rfl := Option.some.inj hE
      exact m_iret hC hP hS dX2_is_58
  · have hE := ip c_1 hE
    refine lv_aload_n hx hb dX2_is_4 rfl (lv_at hl 0 rfl) ?_
    refine gM_7 hC hP dX2_is_5 ?_
    refine lv_bipush (v := 6) hx hb dX2_is_8 (by decide) ?_
    refine aM_0 hC hP (i := (6 : Int32)) (by decide) dX2_is_10 ?_
    refine lv_goto (tgt := 58) hx hb dX2_is_11 (by decide) ?_
    obtain rfl := Option.some.inj hE
    exact m_iret hC hP hS dX2_is_58
def fX2_entry (z : MS) (x1 : Int32) (x2 : Int32) : Option Int32 := if ib ((3175 : Int32) + x1) 3205 then none else (if x2 = 0 then (some ((z.2.2.1 0 ((3175 : Int32) + x1).toNatClampNeg) / (12810 : Int32))) else (if x2 = (1 : Int32) then (some (((z.2.2.1 0 ((3175 : Int32) + x1).toNatClampNeg) / (1830 : Int32)) - ((z.2.2.1 0 ((3175 : Int32) + x1).toNatClampNeg) / (1830 : Int32)) / (7 : Int32) * (7 : Int32))) else (if x2 = (2 : Int32) then (some (((z.2.2.1 0 ((3175 : Int32) + x1).toNatClampNeg) / (61 : Int32)) - ((z.2.2.1 0 ((3175 : Int32) + x1).toNatClampNeg) / (61 : Int32)) / (30 : Int32) * (30 : Int32))) else (some ((z.2.2.1 0 ((3175 : Int32) + x1).toNatClampNeg) - (z.2.2.1 0 ((3175 : Int32) + x1).toNatClampNeg) / (61 : Int32) * (61 : Int32))))))
set_option maxHeartbeats 1000000 in
theorem wX2_entry {l : Launch} {E : ME} (z : MS) (x1 : Int32) (x2 : Int32) (y : Int32) (hE : fX2_entry z x1 x2 = some y) : mM l yX2_entry (ws_ yX2_entry cX2_entry 4 (some .int)) rmX2_entry E z [.int x1, .int x2] (some (.int y)) z := by
  refine m_met (by decide) rfl (Nat.le_of_ble_eq_true rfl) (fun p e s m args below meth c hC => ?_)
  intro H locs ls hP hS hl
  have hx := hC.1
  have hb := hC.2.1
  have hown := hC.2.2.2.2.2.1
  have hts := hC.2.2.2.2.2.2.1
  have hl : lv_has ls 4 [(0, .ref (E.2.2.2.1 0)), (1, .int x1), (2, .int x2)] := hl
  unfold fX2_entry at hE
  refine lv_aload_n hx hb dX2_entry_0 rfl (lv_at hl 0 rfl) ?_
  refine gM_7 hC hP dX2_entry_1 ?_
  refine lv_sipush (v := 3175) hx hb dX2_entry_4 (by decide) ?_
  refine lv_iload_n hx hb dX2_entry_7 rfl (lv_at hl 1 rfl) ?_
  refine lv_iadd hx hb dX2_entry_8 ?_
  obtain ⟨c_1, hE⟩ := og hE
  refine aM_0 hC hP c_1 dX2_entry_9 ?_
  refine lv_istore_n (lv' := [(3, .int (z.2.2.1 0 ((3175 : Int32) + x1).toNatClampNeg)), (0, .ref (E.2.2.2.1 0)), (1, .int x1), (2, .int x2)]) hx hb dX2_entry_10 rfl hl (Nat.le_of_ble_eq_true rfl) rfl (fun ls hl => ?_)
  refine lv_iload_n hx hb dX2_entry_11 rfl (lv_at hl 3 rfl) ?_
  refine lv_if_ne (tgt := 23) hx hb dX2_entry_12 (by decide) (fun c_2 => ?_) (fun c_2 => ?_)
  · have hE := iq c_2 hE
    refine lv_iload_n hx hb dX2_entry_23 rfl (lv_at hl 3 rfl) ?_
    refine lv_iconst (v := 1) hx hb dX2_entry_24 (by decide) ?_
    refine lv_icmp_ne (tgt := 39) hx hb dX2_entry_25 (by decide) (fun c_3 => ?_) (fun c_3 => ?_)
    · have hE := iq c_3 hE
      refine lv_iload_n hx hb dX2_entry_39 rfl (lv_at hl 3 rfl) ?_
      refine lv_iconst (v := 2) hx hb dX2_entry_40 (by decide) ?_
      refine lv_icmp_ne (tgt := 54) hx hb dX2_entry_41 (by decide) (fun c_4 => ?_) (fun c_4 => ?_)
      · have hE := iq c_4 hE
        refine lv_iload_n hx hb dX2_entry_54 rfl (lv_at hl 0 rfl) ?_
        refine lv_bipush (v := 61) hx hb dX2_entry_55 (by decide) ?_
        refine lv_irem hx hb dX2_entry_57 (by decide) ?_
        obtain rfl := Option.some.inj hE
        exact m_iret hC hP hS dX2_entry_58
      · have hE := ip c_4 hE
        refine lv_iload_n hx hb dX2_entry_44 rfl (lv_at hl 0 rfl) ?_
        refine lv_bipush (v := 61) hx hb dX2_entry_45 (by decide) ?_
        refine lv_idiv hx hb dX2_entry_47 (by decide) ?_
        refine lv_bipush (v := 30) hx hb dX2_entry_48 (by decide) ?_
        refine lv_irem hx hb dX2_entry_50 (by decide) ?_
        refine lv_goto (tgt := 58) hx hb dX2_entry_51 (by decide) ?_
        obtain rfl := Option.some.inj hE
        exact m_iret hC hP hS dX2_entry_58
    · have hE := ip c_3 hE
      refine lv_iload_n hx hb dX2_entry_28 rfl (lv_at hl 0 rfl) ?_
      refine lv_sipush (v := 1830) hx hb dX2_entry_29 (by decide) ?_
      refine lv_idiv hx hb dX2_entry_32 (by decide) ?_
      refine lv_bipush (v := 7) hx hb dX2_entry_33 (by decide) ?_
      refine lv_irem hx hb dX2_entry_35 (by decide) ?_
      refine lv_goto (tgt := 58) hx hb dX2_entry_36 (by decide) ?_
      obtain rfl := Option.some.inj hE
      exact m_iret hC hP hS dX2_entry_58
  · have hE := ip c_2 hE
    refine lv_iload_n hx hb dX2_entry_15 rfl (lv_at hl 0 rfl) ?_
    refine lv_sipush (v := 12810) hx hb dX2_entry_16 (by decide) ?_
    refine lv_idiv hx hb dX2_entry_19 (by decide) ?_
    refine lv_goto (tgt := 58) hx hb dX2_entry_20 (by decide) ?_
    obtain rfl := Option.some.inj hE
    exact m_iret hC hP hS dX2_entry_58
def fX2_book (z : MS) (x1 : Int32) (x2 : Int32) : Option Int32 := if x1 = (-1 : Int32) then (some (z.2.2.1 0 (8 : Int32).toNatClampNeg)) else ((fX2_isIn x1 (0 : Int32) ((z.2.2.1 0 (8 : Int32).toNatClampNeg) - (1 : Int32))).bind fun r_3 => if r_3 = 0 then (some (-2 : Int32)) else ((fX2_isIn x2 (0 : Int32) (3 : Int32)).bind fun r_5 => if r_5 = 0 then (some (-2 : Int32)) else ((fX2_entry z x1 x2).bind fun r_7 => some r_7)))
set_option maxHeartbeats 1000000 in
theorem wX2_book {l : Launch} {E : ME} (z : MS) (x1 : Int32) (x2 : Int32) (y : Int32) (hE : fX2_book z x1 x2 = some y) : mM l yX2_book (ws_ yX2_book cX2_book 3 (some .int)) rmX2_book E z [.int x1, .int x2] (some (.int y)) z := by
  refine m_met (by decide) rfl (Nat.le_of_ble_eq_true rfl) (fun p e s m args below meth c hC => ?_)
  intro H locs ls hP hS hl
  have hx := hC.1
  have hb := hC.2.1
  have hown := hC.2.2.2.2.2.1
  have hts := hC.2.2.2.2.2.2.1
  have hl : lv_has ls 3 [(0, .ref (E.2.2.2.1 0)), (1, .int x1), (2, .int x2)] := hl
  unfold fX2_book at hE
  refine lv_iload_n hx hb dX2_book_0 rfl (lv_at hl 1 rfl) ?_
  refine lv_iconst (v := -1) hx hb dX2_book_1 (by decide) ?_
  refine lv_icmp_ne (tgt := 13) hx hb dX2_book_2 (by decide) (fun c_1 => ?_) (fun c_1 => ?_)
  · have hE := iq c_1 hE
    refine lv_iload_n hx hb dX2_book_13 rfl (lv_at hl 1 rfl) ?_
    refine lv_iconst (v := 0) hx hb dX2_book_14 (by decide) ?_
    refine lv_aload_n hx hb dX2_book_15 rfl (lv_at hl 0 rfl) ?_
    refine gM_7 hC hP dX2_book_16 ?_
    refine lv_bipush (v := 8) hx hb dX2_book_19 (by decide) ?_
    refine aM_0 hC hP (i := (8 : Int32)) (by decide) dX2_book_21 ?_
    refine lv_iconst (v := 1) hx hb dX2_book_22 (by decide) ?_
    refine lv_isub hx hb dX2_book_23 ?_
    obtain ⟨r_3, h_3, hE⟩ := ob hE
    refine s_calli [.int x1, .int (0 : Int32), .int ((z.2.2.1 0 (8 : Int32).toNatClampNeg) - (1 : Int32))] hC.sC hl.1 (wX2_isIn x1 (0 : Int32) ((z.2.2.1 0 (8 : Int32).toNatClampNeg) - (1 : Int32)) r_3 h_3) (va_cwS 3 hts lkX2_69 rfl rfl rfl cdX2_isIn ⟨Nat.le_of_ble_eq_true rfl, Nat.le_of_ble_eq_true rfl⟩) rfl rfl (lv_room (Nat.le_of_ble_eq_true rfl)) ⟨Nat.zero_le _, Nat.zero_le _⟩ dX2_book_24 ?_
    refine lv_if_eq (tgt := 48) hx hb dX2_book_27 (by decide) (fun c_4 => ?_) (fun c_4 => ?_)
    · have hE := ip c_4 hE
      refine lv_bipush (v := -2) hx hb dX2_book_48 (by decide) ?_
      obtain rfl := Option.some.inj hE
      exact m_iret hC hP hS dX2_book_50
    · have hE := iq c_4 hE
      refine lv_iload_n hx hb dX2_book_30 rfl (lv_at hl 2 rfl) ?_
      refine lv_iconst (v := 0) hx hb dX2_book_31 (by decide) ?_
      refine lv_iconst (v := 3) hx hb dX2_book_32 (by decide) ?_
      obtain ⟨r_5, h_5, hE⟩ := ob hE
      refine s_calli [.int x2, .int (0 : Int32), .int (3 : Int32)] hC.sC hl.1 (wX2_isIn x2 (0 : Int32) (3 : Int32) r_5 h_5) (va_cwS 3 hts lkX2_69 rfl rfl rfl cdX2_isIn ⟨Nat.le_of_ble_eq_true rfl, Nat.le_of_ble_eq_true rfl⟩) rfl rfl (lv_room (Nat.le_of_ble_eq_true rfl)) ⟨Nat.zero_le _, Nat.zero_le _⟩ dX2_book_33 ?_
      refine lv_if_eq (tgt := 48) hx hb dX2_book_36 (by decide) (fun c_6 => ?_) (fun c_6 => ?_)
      · have hE := ip c_6 hE
        refine lv_bipush (v := -2) hx hb dX2_book_48 (by decide) ?_
        obtain rfl := Option.some.inj hE
        exact m_iret hC hP hS dX2_book_50
      · have hE := iq c_6 hE
        refine lv_aload_n hx hb dX2_book_39 rfl (lv_at hl 0 rfl) ?_
        refine lv_iload_n hx hb dX2_book_40 rfl (lv_at hl 1 rfl) ?_
        refine lv_iload_n hx hb dX2_book_41 rfl (lv_at hl 2 rfl) ?_
        obtain ⟨r_7, h_7, hE⟩ := ob hE
        refine m_calli [.int x1, .int x2] hC hP hS hl.1 (wX2_entry z x1 x2 r_7 h_7) (cwV 2 hts lkX2_370 rfl rfl rfl cdX2_entry ⟨Nat.le_of_ble_eq_true rfl, Nat.le_of_ble_eq_true rfl⟩) rfl rfl (lv_room (Nat.le_of_ble_eq_true rfl)) dX2_book_42 (fun H locs hP hS => ?_)
        refine lv_goto (tgt := 50) hx hb dX2_book_45 (by decide) ?_
        obtain rfl := Option.some.inj hE
        exact m_iret hC hP hS dX2_book_50
  · have hE := ip c_1 hE
    refine lv_aload_n hx hb dX2_book_5 rfl (lv_at hl 0 rfl) ?_
    refine gM_7 hC hP dX2_book_6 ?_
    refine lv_bipush (v := 8) hx hb dX2_book_9 (by decide) ?_
    refine aM_0 hC hP (i := (8 : Int32)) (by decide) dX2_book_11 ?_
    obtain rfl := Option.some.inj hE
    exact m_iret hC hP hS dX2_book_12
def fX2_ledger_J47 (k : Nat) (w : MS) (v1 : Int32) (x3 : Int32) (t0 : Int32) : Option ((Int32 × Int32) ⊕ Int32) := (fX2_entry w x3 (3 : Int32)).bind fun r_5 => some (.inl ((t0 + r_5), (x3 + (1 : Int32))))
set_option maxHeartbeats 1000000 in
theorem wX2_ledger_J47 {p : Program} {l : Launch} {e : Env} {s : State} {m : MethodId} {args : Array Value} {below : List Frame} {meth : Method} {c : Code} {E : ME} {Q : State → Prop} (k : Nat) (w : MS) (v1 : Int32) (x3 : Int32) (t0 : Int32) (hC : mC E cX2_ledger 4 (some .int) p s m args meth c) (y : (Int32 × Int32) ⊕ Int32) (hE : fX2_ledger_J47 k w v1 x3 t0 = some y) (hc : ∀ a : Int32 × Int32, y = .inl a → mW p l e rmX2_ledger s m args below meth c E 4 Q 20 [(0, .ref (E.2.2.2.1 0)), (1, .int v1), (2, .int a.1), (3, .int a.2)] [] w) (hx1 : ∀ b : Int32, y = .inr b → mW p l e rmX2_ledger s m args below meth c E 4 Q 65 [(2, .int b)] [] w) : mW p l e rmX2_ledger s m args below meth c E 4 Q 47 [(0, .ref (E.2.2.2.1 0)), (1, .int v1), (3, .int x3)] [.int t0] w := by
  intro H locs ls hP hS hl
  have hx := hC.1
  have hb := hC.2.1
  have hown := hC.2.2.2.2.2.1
  have hts := hC.2.2.2.2.2.2.1
  unfold fX2_ledger_J47 at hE
  refine lv_aload_n hx hb dX2_ledger_47 rfl (lv_at hl 0 rfl) ?_
  refine lv_iload_n hx hb dX2_ledger_48 rfl (lv_at hl 2 rfl) ?_
  refine lv_iconst (v := 3) hx hb dX2_ledger_49 (by decide) ?_
  obtain ⟨r_5, h_5, hE⟩ := ob hE
  refine m_calli [.int x3, .int (3 : Int32)] hC hP hS hl.1 (wX2_entry w x3 (3 : Int32) r_5 h_5) (cwV 2 hts lkX2_370 rfl rfl rfl cdX2_entry ⟨Nat.le_of_ble_eq_true rfl, Nat.le_of_ble_eq_true rfl⟩) rfl rfl (lv_room (Nat.le_of_ble_eq_true rfl)) dX2_ledger_50 (fun H locs hP hS => ?_)
  refine lv_goto (tgt := 57) hx hb dX2_ledger_53 (by decide) ?_
  refine lv_iadd hx hb dX2_ledger_57 ?_
  refine lv_istore_n (lv' := [(2, .int (t0 + r_5)), (0, .ref (E.2.2.2.1 0)), (1, .int v1), (3, .int x3)]) hx hb dX2_ledger_58 rfl hl (Nat.le_of_ble_eq_true rfl) rfl (fun ls hl => ?_)
  refine lv_iinc (v := (x3 + (1 : Int32))) (lv' := [(3, .int (x3 + (1 : Int32))), (2, .int (t0 + r_5)), (0, .ref (E.2.2.2.1 0)), (1, .int v1)]) hx hb dX2_ledger_59 hl (k := 3) rfl rfl (Nat.le_of_ble_eq_true rfl) rfl (fun ls hl => ?_)
  refine lv_goto (tgt := 20) hx hb dX2_ledger_62 (by decide) ?_
  exact hc _ (Option.some.inj hE).symm H locs ls hP hS (lv_sub hl [2, 3, 1, 0] rfl)
def fX2_ledger_B20 (k : Nat) (v1 : Int32) (w : MS) (a : Int32 × Int32) : Option ((Int32 × Int32) ⊕ Int32) := if (w.2.2.1 0 (8 : Int32).toNatClampNeg) ≤ a.2 then (some (.inr a.1)) else (if v1 = (-1 : Int32) then ((fX2_ledger_J47 k w v1 a.2 a.1)) else ((fX2_entry w a.2 (1 : Int32)).bind fun r_6 => if r_6 = v1 then ((fX2_ledger_J47 k w v1 a.2 a.1)) else (some (.inl ((a.1 + (0 : Int32)), (a.2 + (1 : Int32)))))))
set_option maxHeartbeats 1000000 in
theorem wX2_ledger_B20 {p : Program} {l : Launch} {e : Env} {s : State} {m : MethodId} {args : Array Value} {below : List Frame} {meth : Method} {c : Code} {E : ME} {Q : State → Prop} (k : Nat) (v1 : Int32) (w : MS) (hC : mC E cX2_ledger 4 (some .int) p s m args meth c) (a : Int32 × Int32) (y : (Int32 × Int32) ⊕ Int32) (hE : fX2_ledger_B20 k v1 w a = some y) (hc : ∀ a : Int32 × Int32, y = .inl a → mW p l e rmX2_ledger s m args below meth c E 4 Q 20 [(0, .ref (E.2.2.2.1 0)), (1, .int v1), (2, .int a.1), (3, .int a.2)] [] w) (hx1 : ∀ b : Int32, y = .inr b → mW p l e rmX2_ledger s m args below meth c E 4 Q 65 [(2, .int b)] [] w) : mW p l e rmX2_ledger s m args below meth c E 4 Q 20 [(0, .ref (E.2.2.2.1 0)), (1, .int v1), (2, .int a.1), (3, .int a.2)] [] w := by
  intro H locs ls hP hS hl
  have hx := hC.1
  have hb := hC.2.1
  have hown := hC.2.2.2.2.2.1
  have hts := hC.2.2.2.2.2.2.1
  unfold fX2_ledger_B20 at hE
  refine lv_iload_n hx hb dX2_ledger_20 rfl (lv_at hl 3 rfl) ?_
  refine lv_aload_n hx hb dX2_ledger_21 rfl (lv_at hl 0 rfl) ?_
  refine gM_7 hC hP dX2_ledger_22 ?_
  refine lv_bipush (v := 8) hx hb dX2_ledger_25 (by decide) ?_
  refine aM_0 hC hP (i := (8 : Int32)) (by decide) dX2_ledger_27 ?_
  refine lv_icmp_ge (tgt := 65) hx hb dX2_ledger_28 (by decide) (fun c_3 => ?_) (fun c_3 => ?_)
  · have hE := ip c_3 hE
    exact hx1 _ (Option.some.inj hE).symm H locs ls hP hS (lv_sub hl [2] rfl)
  · have hE := iq c_3 hE
    refine lv_iload_n hx hb dX2_ledger_31 rfl (lv_at hl 2 rfl) ?_
    refine lv_iload_n hx hb dX2_ledger_32 rfl (lv_at hl 1 rfl) ?_
    refine lv_iconst (v := -1) hx hb dX2_ledger_33 (by decide) ?_
    refine lv_icmp_eq (tgt := 47) hx hb dX2_ledger_34 (by decide) (fun c_4 => ?_) (fun c_4 => ?_)
    · have hE := ip c_4 hE
      exact wX2_ledger_J47 k w v1 a.2 a.1 hC y hE hc hx1 H locs ls hP hS (lv_sub hl [0, 1, 3] rfl)
    · have hE := iq c_4 hE
      refine lv_aload_n hx hb dX2_ledger_37 rfl (lv_at hl 0 rfl) ?_
      refine lv_iload_n hx hb dX2_ledger_38 rfl (lv_at hl 3 rfl) ?_
      refine lv_iconst (v := 1) hx hb dX2_ledger_39 (by decide) ?_
      obtain ⟨r_6, h_6, hE⟩ := ob hE
      refine m_calli [.int a.2, .int (1 : Int32)] hC hP hS hl.1 (wX2_entry w a.2 (1 : Int32) r_6 h_6) (cwV 2 hts lkX2_370 rfl rfl rfl cdX2_entry ⟨Nat.le_of_ble_eq_true rfl, Nat.le_of_ble_eq_true rfl⟩) rfl rfl (lv_room (Nat.le_of_ble_eq_true rfl)) dX2_ledger_40 (fun H locs hP hS => ?_)
      refine lv_iload_n hx hb dX2_ledger_43 rfl (lv_at hl 1 rfl) ?_
      refine lv_icmp_ne (tgt := 56) hx hb dX2_ledger_44 (by decide) (fun c_7 => ?_) (fun c_7 => ?_)
      · have hE := iq c_7 hE
        refine lv_iconst (v := 0) hx hb dX2_ledger_56 (by decide) ?_
        refine lv_iadd hx hb dX2_ledger_57 ?_
        refine lv_istore_n (lv' := [(2, .int (a.1 + (0 : Int32))), (0, .ref (E.2.2.2.1 0)), (1, .int v1), (3, .int a.2)]) hx hb dX2_ledger_58 rfl hl (Nat.le_of_ble_eq_true rfl) rfl (fun ls hl => ?_)
        refine lv_iinc (v := (a.2 + (1 : Int32))) (lv' := [(3, .int (a.2 + (1 : Int32))), (2, .int (a.1 + (0 : Int32))), (0, .ref (E.2.2.2.1 0)), (1, .int v1)]) hx hb dX2_ledger_59 hl (k := 3) rfl rfl (Nat.le_of_ble_eq_true rfl) rfl (fun ls hl => ?_)
        refine lv_goto (tgt := 20) hx hb dX2_ledger_62 (by decide) ?_
        exact hc _ (Option.some.inj hE).symm H locs ls hP hS (lv_sub hl [2, 3, 1, 0] rfl)
      · have hE := ip c_7 hE
        exact wX2_ledger_J47 k w v1 a.2 a.1 hC y hE hc hx1 H locs ls hP hS (lv_sub hl [0, 1, 3] rfl)
def fX2_ledger_J16 (k : Nat) (z : MS) (x1 : Int32) : Option (Int32) := (lpo (fX2_ledger_B20 k x1 z) k ((0 : Int32), (0 : Int32))).bind fun x_8 => some x_8
set_option maxHeartbeats 1000000 in
theorem wX2_ledger_J16 {p : Program} {l : Launch} {e : Env} {s : State} {m : MethodId} {args : Array Value} {below : List Frame} {meth : Method} {c : Code} {E : ME} (k : Nat) (z : MS) (x1 : Int32) (hC : mC E cX2_ledger 4 (some .int) p s m args meth c) (y : Int32) (hE : fX2_ledger_J16 k z x1 = some y) : mW p l e rmX2_ledger s m args below meth c E 4 (mQ E below args s (some (.int y)) z) 16 [(0, .ref (E.2.2.2.1 0)), (1, .int x1)] [] z := by
  intro H locs ls hP hS hl
  have hx := hC.1
  have hb := hC.2.1
  have hown := hC.2.2.2.2.2.1
  have hts := hC.2.2.2.2.2.2.1
  unfold fX2_ledger_J16 at hE
  refine lv_iconst (v := 0) hx hb dX2_ledger_16 (by decide) ?_
  refine lv_istore_n (lv' := [(2, .int (0 : Int32)), (0, .ref (E.2.2.2.1 0)), (1, .int x1)]) hx hb dX2_ledger_17 rfl hl (Nat.le_of_ble_eq_true rfl) rfl (fun ls hl => ?_)
  refine lv_iconst (v := 0) hx hb dX2_ledger_18 (by decide) ?_
  refine lv_istore_n (lv' := [(3, .int (0 : Int32)), (2, .int (0 : Int32)), (0, .ref (E.2.2.2.1 0)), (1, .int x1)]) hx hb dX2_ledger_19 rfl hl (Nat.le_of_ble_eq_true rfl) rfl (fun ls hl => ?_)
  obtain ⟨x_8, h_8, hE⟩ := ob hE
  refine lpo_walk (fun p_8 : Int32 × Int32 => mW p l e rmX2_ledger s m args below meth c E 4 (mQ E below args s (some (.int y)) z) 20 [(0, .ref (E.2.2.2.1 0)), (1, .int x1), (2, .int p_8.1), (3, .int p_8.2)] [] z) (fun q_8 : Int32 => mW p l e rmX2_ledger s m args below meth c E 4 (mQ E below args s (some (.int y)) z) 65 [(2, .int q_8)] [] z) (fun a_8 y_8 hB_8 hc_8 hx_8 => wX2_ledger_B20 k x1 z hC a_8 y_8 hB_8 hc_8 hx_8) _ _ x_8 h_8 ?_ H locs ls hP hS (lv_sub hl [2, 3, 1, 0] rfl)
  intro H locs ls hP hS hl
  refine lv_iload_n hx hb dX2_ledger_65 rfl (lv_at hl 0 rfl) ?_
  obtain rfl := Option.some.inj hE
  exact m_iret hC hP hS dX2_ledger_66
def fX2_ledger (k : Nat) (z : MS) (x1 : Int32) : Option Int32 := if x1 = (-1 : Int32) then ((fX2_ledger_J16 k z x1)) else ((fX2_isChild z x1).bind fun r_9 => if r_9 = 0 then (some (-2 : Int32)) else ((fX2_ledger_J16 k z x1)))
set_option maxHeartbeats 1000000 in
theorem wX2_ledger {l : Launch} {E : ME} (k : Nat) (z : MS) (x1 : Int32) (y : Int32) (hE : fX2_ledger k z x1 = some y) : mM l yX2_ledger (ws_ yX2_ledger cX2_ledger 4 (some .int)) rmX2_ledger E z [.int x1] (some (.int y)) z := by
  refine m_met (by decide) rfl (Nat.le_of_ble_eq_true rfl) (fun p e s m args below meth c hC => ?_)
  intro H locs ls hP hS hl
  have hx := hC.1
  have hb := hC.2.1
  have hown := hC.2.2.2.2.2.1
  have hts := hC.2.2.2.2.2.2.1
  have hl : lv_has ls 4 [(0, .ref (E.2.2.2.1 0)), (1, .int x1)] := hl
  unfold fX2_ledger at hE
  refine lv_iload_n hx hb dX2_ledger_0 rfl (lv_at hl 1 rfl) ?_
  refine lv_iconst (v := -1) hx hb dX2_ledger_1 (by decide) ?_
  refine lv_icmp_eq (tgt := 16) hx hb dX2_ledger_2 (by decide) (fun c_1 => ?_) (fun c_1 => ?_)
  · have hE := ip c_1 hE
    exact wX2_ledger_J16 k z x1 hC y hE H locs ls hP hS hl
  · have hE := iq c_1 hE
    refine lv_aload_n hx hb dX2_ledger_5 rfl (lv_at hl 0 rfl) ?_
    refine lv_iload_n hx hb dX2_ledger_6 rfl (lv_at hl 1 rfl) ?_
    obtain ⟨r_9, h_9, hE⟩ := ob hE
    refine m_calli [.int x1] hC hP hS hl.1 (wX2_isChild z x1 r_9 h_9) (cwV 1 hts lkX2_322 rfl rfl rfl cdX2_isChild ⟨Nat.le_of_ble_eq_true rfl, Nat.le_of_ble_eq_true rfl⟩) rfl rfl (lv_room (Nat.le_of_ble_eq_true rfl)) dX2_ledger_7 (fun H locs hP hS => ?_)
    refine lv_if_ne (tgt := 16) hx hb dX2_ledger_10 (by decide) (fun c_10 => ?_) (fun c_10 => ?_)
    · have hE := iq c_10 hE
      exact wX2_ledger_J16 k z x1 hC y hE H locs ls hP hS hl
    · have hE := ip c_10 hE
      refine lv_bipush (v := -2) hx hb dX2_ledger_13 (by decide) ?_
      obtain rfl := Option.some.inj hE
      exact m_iret hC hP hS dX2_ledger_15
def fX2_greatest_J53 (k : Nat) (w : MS) (x2 : Int32) : Option ((Int32 × Int32) ⊕ Int32) := some (.inl (x2, (x2 + (1 : Int32))))
set_option maxHeartbeats 1000000 in
theorem wX2_greatest_J53 {p : Program} {l : Launch} {e : Env} {s : State} {m : MethodId} {args : Array Value} {below : List Frame} {meth : Method} {c : Code} {E : ME} {Q : State → Prop} (k : Nat) (w : MS) (x2 : Int32) (hC : mC E cX2_greatest 3 (some .int) p s m args meth c) (y : (Int32 × Int32) ⊕ Int32) (hE : fX2_greatest_J53 k w x2 = some y) (hc : ∀ a : Int32 × Int32, y = .inl a → mW p l e rmX2_greatest s m args below meth c E 3 Q 4 [(0, .ref (E.2.2.2.1 0)), (1, .int a.1), (2, .int a.2)] [] w) (hx1 : ∀ b : Int32, y = .inr b → mW p l e rmX2_greatest s m args below meth c E 3 Q 61 [(1, .int b)] [] w) : mW p l e rmX2_greatest s m args below meth c E 3 Q 53 [(0, .ref (E.2.2.2.1 0)), (2, .int x2)] [] w := by
  intro H locs ls hP hS hl
  have hx := hC.1
  have hb := hC.2.1
  have hown := hC.2.2.2.2.2.1
  have hts := hC.2.2.2.2.2.2.1
  unfold fX2_greatest_J53 at hE
  refine lv_iload_n hx hb dX2_greatest_53 rfl (lv_at hl 1 rfl) ?_
  refine lv_istore_n (lv' := [(1, .int x2), (0, .ref (E.2.2.2.1 0)), (2, .int x2)]) hx hb dX2_greatest_54 rfl hl (Nat.le_of_ble_eq_true rfl) rfl (fun ls hl => ?_)
  refine lv_iinc (v := (x2 + (1 : Int32))) (lv' := [(2, .int (x2 + (1 : Int32))), (1, .int x2), (0, .ref (E.2.2.2.1 0))]) hx hb dX2_greatest_55 hl (k := 2) rfl rfl (Nat.le_of_ble_eq_true rfl) rfl (fun ls hl => ?_)
  refine lv_goto (tgt := 4) hx hb dX2_greatest_58 (by decide) ?_
  exact hc _ (Option.some.inj hE).symm H locs ls hP hS (lv_sub hl [2, 1, 0] rfl)
def fX2_greatest_B4 (k : Nat)  (w : MS) (a : Int32 × Int32) : Option ((Int32 × Int32) ⊕ Int32) := if (w.2.2.1 0 (0 : Int32).toNatClampNeg) ≤ a.2 then (some (.inr a.1)) else (if ib ((69 : Int32) + a.2) 3205 then none else (if (w.2.2.1 0 ((69 : Int32) + a.2).toNatClampNeg) = (-1 : Int32) then (some (.inl (a.1, (a.2 + (1 : Int32))))) else (if a.1 = (-1 : Int32) then ((fX2_greatest_J53 k w a.2)) else (if ib ((69 : Int32) + a.2) 3205 then none else (if ib ((69 : Int32) + a.1) 3205 then none else (if (w.2.2.1 0 ((69 : Int32) + a.2).toNatClampNeg) ≤ (w.2.2.1 0 ((69 : Int32) + a.1).toNatClampNeg) then (some (.inl (a.1, (a.2 + (1 : Int32))))) else ((fX2_greatest_J53 k w a.2))))))))
set_option maxHeartbeats 1000000 in
theorem wX2_greatest_B4 {p : Program} {l : Launch} {e : Env} {s : State} {m : MethodId} {args : Array Value} {below : List Frame} {meth : Method} {c : Code} {E : ME} {Q : State → Prop} (k : Nat)  (w : MS) (hC : mC E cX2_greatest 3 (some .int) p s m args meth c) (a : Int32 × Int32) (y : (Int32 × Int32) ⊕ Int32) (hE : fX2_greatest_B4 k  w a = some y) (hc : ∀ a : Int32 × Int32, y = .inl a → mW p l e rmX2_greatest s m args below meth c E 3 Q 4 [(0, .ref (E.2.2.2.1 0)), (1, .int a.1), (2, .int a.2)] [] w) (hx1 : ∀ b : Int32, y = .inr b → mW p l e rmX2_greatest s m args below meth c E 3 Q 61 [(1, .int b)] [] w) : mW p l e rmX2_greatest s m args below meth c E 3 Q 4 [(0, .ref (E.2.2.2.1 0)), (1, .int a.1), (2, .int a.2)] [] w := by
  intro H locs ls hP hS hl
  have hx := hC.1
  have hb := hC.2.1
  have hown := hC.2.2.2.2.2.1
  have hts := hC.2.2.2.2.2.2.1
  unfold fX2_greatest_B4 at hE
  refine lv_iload_n hx hb dX2_greatest_4 rfl (lv_at hl 2 rfl) ?_
  refine lv_aload_n hx hb dX2_greatest_5 rfl (lv_at hl 0 rfl) ?_
  refine gM_7 hC hP dX2_greatest_6 ?_
  refine lv_iconst (v := 0) hx hb dX2_greatest_9 (by decide) ?_
  refine aM_0 hC hP (i := (0 : Int32)) (by decide) dX2_greatest_10 ?_
  refine lv_icmp_ge (tgt := 61) hx hb dX2_greatest_11 (by decide) (fun c_2 => ?_) (fun c_2 => ?_)
  · have hE := ip c_2 hE
    exact hx1 _ (Option.some.inj hE).symm H locs ls hP hS (lv_sub hl [1] rfl)
  · have hE := iq c_2 hE
    refine lv_aload_n hx hb dX2_greatest_14 rfl (lv_at hl 0 rfl) ?_
    refine gM_7 hC hP dX2_greatest_15 ?_
    refine lv_bipush (v := 69) hx hb dX2_greatest_18 (by decide) ?_
    refine lv_iload_n hx hb dX2_greatest_20 rfl (lv_at hl 2 rfl) ?_
    refine lv_iadd hx hb dX2_greatest_21 ?_
    obtain ⟨c_3, hE⟩ := og hE
    refine aM_0 hC hP c_3 dX2_greatest_22 ?_
    refine lv_iconst (v := -1) hx hb dX2_greatest_23 (by decide) ?_
    refine lv_icmp_eq (tgt := 55) hx hb dX2_greatest_24 (by decide) (fun c_4 => ?_) (fun c_4 => ?_)
    · have hE := ip c_4 hE
      refine lv_iinc (v := (a.2 + (1 : Int32))) (lv' := [(2, .int (a.2 + (1 : Int32))), (0, .ref (E.2.2.2.1 0)), (1, .int a.1)]) hx hb dX2_greatest_55 hl (k := 2) rfl rfl (Nat.le_of_ble_eq_true rfl) rfl (fun ls hl => ?_)
      refine lv_goto (tgt := 4) hx hb dX2_greatest_58 (by decide) ?_
      exact hc _ (Option.some.inj hE).symm H locs ls hP hS (lv_sub hl [1, 2, 0] rfl)
    · have hE := iq c_4 hE
      refine lv_iload_n hx hb dX2_greatest_27 rfl (lv_at hl 1 rfl) ?_
      refine lv_iconst (v := -1) hx hb dX2_greatest_28 (by decide) ?_
      refine lv_icmp_eq (tgt := 53) hx hb dX2_greatest_29 (by decide) (fun c_5 => ?_) (fun c_5 => ?_)
      · have hE := ip c_5 hE
        exact wX2_greatest_J53 k w a.2 hC y hE hc hx1 H locs ls hP hS (lv_sub hl [0, 2] rfl)
      · have hE := iq c_5 hE
        refine lv_aload_n hx hb dX2_greatest_32 rfl (lv_at hl 0 rfl) ?_
        refine gM_7 hC hP dX2_greatest_33 ?_
        refine lv_bipush (v := 69) hx hb dX2_greatest_36 (by decide) ?_
        refine lv_iload_n hx hb dX2_greatest_38 rfl (lv_at hl 2 rfl) ?_
        refine lv_iadd hx hb dX2_greatest_39 ?_
        obtain ⟨c_6, hE⟩ := og hE
        refine aM_0 hC hP c_6 dX2_greatest_40 ?_
        refine lv_aload_n hx hb dX2_greatest_41 rfl (lv_at hl 0 rfl) ?_
        refine gM_7 hC hP dX2_greatest_42 ?_
        refine lv_bipush (v := 69) hx hb dX2_greatest_45 (by decide) ?_
        refine lv_iload_n hx hb dX2_greatest_47 rfl (lv_at hl 1 rfl) ?_
        refine lv_iadd hx hb dX2_greatest_48 ?_
        obtain ⟨c_7, hE⟩ := og hE
        refine aM_0 hC hP c_7 dX2_greatest_49 ?_
        refine lv_icmp_le (tgt := 55) hx hb dX2_greatest_50 (by decide) (fun c_8 => ?_) (fun c_8 => ?_)
        · have hE := ip c_8 hE
          refine lv_iinc (v := (a.2 + (1 : Int32))) (lv' := [(2, .int (a.2 + (1 : Int32))), (0, .ref (E.2.2.2.1 0)), (1, .int a.1)]) hx hb dX2_greatest_55 hl (k := 2) rfl rfl (Nat.le_of_ble_eq_true rfl) rfl (fun ls hl => ?_)
          refine lv_goto (tgt := 4) hx hb dX2_greatest_58 (by decide) ?_
          exact hc _ (Option.some.inj hE).symm H locs ls hP hS (lv_sub hl [1, 2, 0] rfl)
        · have hE := iq c_8 hE
          exact wX2_greatest_J53 k w a.2 hC y hE hc hx1 H locs ls hP hS (lv_sub hl [0, 2] rfl)
def fX2_greatest (k : Nat) (z : MS)  : Option Int32 := (lpo (fX2_greatest_B4 k  z) k ((-1 : Int32), (0 : Int32))).bind fun x_9 => some x_9
set_option maxHeartbeats 1000000 in
theorem wX2_greatest {l : Launch} {E : ME} (k : Nat) (z : MS)  (y : Int32) (hE : fX2_greatest k z  = some y) : mM l yX2_greatest (ws_ yX2_greatest cX2_greatest 3 (some .int)) rmX2_greatest E z [] (some (.int y)) z := by
  refine m_met (by decide) rfl (Nat.le_of_ble_eq_true rfl) (fun p e s m args below meth c hC => ?_)
  intro H locs ls hP hS hl
  have hx := hC.1
  have hb := hC.2.1
  have hown := hC.2.2.2.2.2.1
  have hts := hC.2.2.2.2.2.2.1
  have hl : lv_has ls 3 [(0, .ref (E.2.2.2.1 0))] := hl
  unfold fX2_greatest at hE
  refine lv_iconst (v := -1) hx hb dX2_greatest_0 (by decide) ?_
  refine lv_istore_n (lv' := [(1, .int (-1 : Int32)), (0, .ref (E.2.2.2.1 0))]) hx hb dX2_greatest_1 rfl hl (Nat.le_of_ble_eq_true rfl) rfl (fun ls hl => ?_)
  refine lv_iconst (v := 0) hx hb dX2_greatest_2 (by decide) ?_
  refine lv_istore_n (lv' := [(2, .int (0 : Int32)), (1, .int (-1 : Int32)), (0, .ref (E.2.2.2.1 0))]) hx hb dX2_greatest_3 rfl hl (Nat.le_of_ble_eq_true rfl) rfl (fun ls hl => ?_)
  obtain ⟨x_9, h_9, hE⟩ := ob hE
  refine lpo_walk (fun p_9 : Int32 × Int32 => mW p l e rmX2_greatest s m args below meth c E 3 (mQ E below args s (some (.int y)) z) 4 [(0, .ref (E.2.2.2.1 0)), (1, .int p_9.1), (2, .int p_9.2)] [] z) (fun q_9 : Int32 => mW p l e rmX2_greatest s m args below meth c E 3 (mQ E below args s (some (.int y)) z) 61 [(1, .int q_9)] [] z) (fun a_9 y_9 hB_9 hc_9 hx_9 => wX2_greatest_B4 k  z hC a_9 y_9 hB_9 hc_9 hx_9) _ _ x_9 h_9 ?_ H locs ls hP hS (lv_sub hl [2, 1, 0] rfl)
  intro H locs ls hP hS hl
  refine lv_iload_n hx hb dX2_greatest_61 rfl (lv_at hl 0 rfl) ?_
  obtain rfl := Option.some.inj hE
  exact m_iret hC hP hS dX2_greatest_62
def fX2_twins_J67 (k : Nat) (w : MS) (v2 : Int32) (x3 : Int32) (t0 : Int32) : Option ((Int32 × Int32) ⊕ Int32) := some (.inl ((t0 + (0 : Int32)), (x3 + (1 : Int32))))
set_option maxHeartbeats 1000000 in
theorem wX2_twins_J67 {p : Program} {l : Launch} {e : Env} {s : State} {m : MethodId} {args : Array Value} {below : List Frame} {meth : Method} {c : Code} {E : ME} {Q : State → Prop} (k : Nat) (w : MS) (v2 : Int32) (x3 : Int32) (t0 : Int32) (hC : mC E cX2_twins 4 (some .int) p s m args meth c) (y : (Int32 × Int32) ⊕ Int32) (hE : fX2_twins_J67 k w v2 x3 t0 = some y) (hc : ∀ a : Int32 × Int32, y = .inl a → mW p l e rmX2_twins s m args below meth c E 4 Q 18 [(0, .ref (E.2.2.2.1 0)), (1, .int a.1), (2, .int v2), (3, .int a.2)] [] w) (hx1 : ∀ b : Int32, y = .inr b → mW p l e rmX2_twins s m args below meth c E 4 Q 76 [(0, .ref (E.2.2.2.1 0)), (1, .int b), (2, .int v2)] [] w) : mW p l e rmX2_twins s m args below meth c E 4 Q 67 [(0, .ref (E.2.2.2.1 0)), (2, .int v2), (3, .int x3)] [.int t0] w := by
  intro H locs ls hP hS hl
  have hx := hC.1
  have hb := hC.2.1
  have hown := hC.2.2.2.2.2.1
  have hts := hC.2.2.2.2.2.2.1
  unfold fX2_twins_J67 at hE
  refine lv_iconst (v := 0) hx hb dX2_twins_67 (by decide) ?_
  refine lv_iadd hx hb dX2_twins_68 ?_
  refine lv_istore_n (lv' := [(1, .int (t0 + (0 : Int32))), (0, .ref (E.2.2.2.1 0)), (2, .int v2), (3, .int x3)]) hx hb dX2_twins_69 rfl hl (Nat.le_of_ble_eq_true rfl) rfl (fun ls hl => ?_)
  refine lv_iinc (v := (x3 + (1 : Int32))) (lv' := [(3, .int (x3 + (1 : Int32))), (1, .int (t0 + (0 : Int32))), (0, .ref (E.2.2.2.1 0)), (2, .int v2)]) hx hb dX2_twins_70 hl (k := 3) rfl rfl (Nat.le_of_ble_eq_true rfl) rfl (fun ls hl => ?_)
  refine lv_goto (tgt := 18) hx hb dX2_twins_73 (by decide) ?_
  exact hc _ (Option.some.inj hE).symm H locs ls hP hS (lv_sub hl [2, 1, 3, 0] rfl)
def fX2_twins_B18 (k : Nat) (v2 : Int32) (w : MS) (a : Int32 × Int32) : Option ((Int32 × Int32) ⊕ Int32) := if (w.2.2.1 0 (0 : Int32).toNatClampNeg) ≤ a.2 then (some (.inr a.1)) else (if ib ((69 : Int32) + v2) 3205 then none else (if (w.2.2.1 0 ((69 : Int32) + v2).toNatClampNeg) = (-1 : Int32) then ((fX2_twins_J67 k w v2 a.2 a.1)) else (if ib ((69 : Int32) + v2) 3205 then none else (if ib ((69 : Int32) + a.2) 3205 then none else (if (w.2.2.1 0 ((69 : Int32) + v2).toNatClampNeg) = (w.2.2.1 0 ((69 : Int32) + a.2).toNatClampNeg) then (some (.inl ((a.1 + (1 : Int32)), (a.2 + (1 : Int32))))) else ((fX2_twins_J67 k w v2 a.2 a.1)))))))
set_option maxHeartbeats 1000000 in
theorem wX2_twins_B18 {p : Program} {l : Launch} {e : Env} {s : State} {m : MethodId} {args : Array Value} {below : List Frame} {meth : Method} {c : Code} {E : ME} {Q : State → Prop} (k : Nat) (v2 : Int32) (w : MS) (hC : mC E cX2_twins 4 (some .int) p s m args meth c) (a : Int32 × Int32) (y : (Int32 × Int32) ⊕ Int32) (hE : fX2_twins_B18 k v2 w a = some y) (hc : ∀ a : Int32 × Int32, y = .inl a → mW p l e rmX2_twins s m args below meth c E 4 Q 18 [(0, .ref (E.2.2.2.1 0)), (1, .int a.1), (2, .int v2), (3, .int a.2)] [] w) (hx1 : ∀ b : Int32, y = .inr b → mW p l e rmX2_twins s m args below meth c E 4 Q 76 [(0, .ref (E.2.2.2.1 0)), (1, .int b), (2, .int v2)] [] w) : mW p l e rmX2_twins s m args below meth c E 4 Q 18 [(0, .ref (E.2.2.2.1 0)), (1, .int a.1), (2, .int v2), (3, .int a.2)] [] w := by
  intro H locs ls hP hS hl
  have hx := hC.1
  have hb := hC.2.1
  have hown := hC.2.2.2.2.2.1
  have hts := hC.2.2.2.2.2.2.1
  unfold fX2_twins_B18 at hE
  refine lv_iload_n hx hb dX2_twins_18 rfl (lv_at hl 3 rfl) ?_
  refine lv_aload_n hx hb dX2_twins_19 rfl (lv_at hl 0 rfl) ?_
  refine gM_7 hC hP dX2_twins_20 ?_
  refine lv_iconst (v := 0) hx hb dX2_twins_23 (by decide) ?_
  refine aM_0 hC hP (i := (0 : Int32)) (by decide) dX2_twins_24 ?_
  refine lv_icmp_ge (tgt := 76) hx hb dX2_twins_25 (by decide) (fun c_4 => ?_) (fun c_4 => ?_)
  · have hE := ip c_4 hE
    exact hx1 _ (Option.some.inj hE).symm H locs ls hP hS (lv_sub hl [0, 1, 2] rfl)
  · have hE := iq c_4 hE
    refine lv_iload_n hx hb dX2_twins_28 rfl (lv_at hl 1 rfl) ?_
    refine lv_aload_n hx hb dX2_twins_29 rfl (lv_at hl 0 rfl) ?_
    refine gM_7 hC hP dX2_twins_30 ?_
    refine lv_bipush (v := 69) hx hb dX2_twins_33 (by decide) ?_
    refine lv_iload_n hx hb dX2_twins_35 rfl (lv_at hl 2 rfl) ?_
    refine lv_iadd hx hb dX2_twins_36 ?_
    obtain ⟨c_5, hE⟩ := og hE
    refine aM_0 hC hP c_5 dX2_twins_37 ?_
    refine lv_iconst (v := -1) hx hb dX2_twins_38 (by decide) ?_
    refine lv_icmp_eq (tgt := 67) hx hb dX2_twins_39 (by decide) (fun c_6 => ?_) (fun c_6 => ?_)
    · have hE := ip c_6 hE
      exact wX2_twins_J67 k w v2 a.2 a.1 hC y hE hc hx1 H locs ls hP hS (lv_sub hl [0, 2, 3] rfl)
    · have hE := iq c_6 hE
      refine lv_aload_n hx hb dX2_twins_42 rfl (lv_at hl 0 rfl) ?_
      refine gM_7 hC hP dX2_twins_43 ?_
      refine lv_bipush (v := 69) hx hb dX2_twins_46 (by decide) ?_
      refine lv_iload_n hx hb dX2_twins_48 rfl (lv_at hl 2 rfl) ?_
      refine lv_iadd hx hb dX2_twins_49 ?_
      obtain ⟨c_7, hE⟩ := og hE
      refine aM_0 hC hP c_7 dX2_twins_50 ?_
      refine lv_aload_n hx hb dX2_twins_51 rfl (lv_at hl 0 rfl) ?_
      refine gM_7 hC hP dX2_twins_52 ?_
      refine lv_bipush (v := 69) hx hb dX2_twins_55 (by decide) ?_
      refine lv_iload_n hx hb dX2_twins_57 rfl (lv_at hl 3 rfl) ?_
      refine lv_iadd hx hb dX2_twins_58 ?_
      obtain ⟨c_8, hE⟩ := og hE
      refine aM_0 hC hP c_8 dX2_twins_59 ?_
      refine lv_icmp_ne (tgt := 67) hx hb dX2_twins_60 (by decide) (fun c_9 => ?_) (fun c_9 => ?_)
      · have hE := iq c_9 hE
        exact wX2_twins_J67 k w v2 a.2 a.1 hC y hE hc hx1 H locs ls hP hS (lv_sub hl [0, 2, 3] rfl)
      · have hE := ip c_9 hE
        refine lv_iconst (v := 1) hx hb dX2_twins_63 (by decide) ?_
        refine lv_goto (tgt := 68) hx hb dX2_twins_64 (by decide) ?_
        refine lv_iadd hx hb dX2_twins_68 ?_
        refine lv_istore_n (lv' := [(1, .int (a.1 + (1 : Int32))), (0, .ref (E.2.2.2.1 0)), (2, .int v2), (3, .int a.2)]) hx hb dX2_twins_69 rfl hl (Nat.le_of_ble_eq_true rfl) rfl (fun ls hl => ?_)
        refine lv_iinc (v := (a.2 + (1 : Int32))) (lv' := [(3, .int (a.2 + (1 : Int32))), (1, .int (a.1 + (1 : Int32))), (0, .ref (E.2.2.2.1 0)), (2, .int v2)]) hx hb dX2_twins_70 hl (k := 3) rfl rfl (Nat.le_of_ble_eq_true rfl) rfl (fun ls hl => ?_)
        refine lv_goto (tgt := 18) hx hb dX2_twins_73 (by decide) ?_
        exact hc _ (Option.some.inj hE).symm H locs ls hP hS (lv_sub hl [2, 1, 3, 0] rfl)
def fX2_twins_B4 (k : Nat)  (w : MS) (a : Int32 × Int32) : Option ((Int32 × Int32) ⊕ Int32) := if (w.2.2.1 0 (0 : Int32).toNatClampNeg) ≤ a.2 then (some (.inr a.1)) else ((lpo (fX2_twins_B18 k a.2 w) k (a.1, (a.2 + (1 : Int32)))).bind fun x_10 => some (.inl (x_10, (a.2 + (1 : Int32)))))
set_option maxHeartbeats 1000000 in
theorem wX2_twins_B4 {p : Program} {l : Launch} {e : Env} {s : State} {m : MethodId} {args : Array Value} {below : List Frame} {meth : Method} {c : Code} {E : ME} {Q : State → Prop} (k : Nat)  (w : MS) (hC : mC E cX2_twins 4 (some .int) p s m args meth c) (a : Int32 × Int32) (y : (Int32 × Int32) ⊕ Int32) (hE : fX2_twins_B4 k  w a = some y) (hc : ∀ a : Int32 × Int32, y = .inl a → mW p l e rmX2_twins s m args below meth c E 4 Q 4 [(0, .ref (E.2.2.2.1 0)), (1, .int a.1), (2, .int a.2)] [] w) (hx1 : ∀ b : Int32, y = .inr b → mW p l e rmX2_twins s m args below meth c E 4 Q 82 [(1, .int b)] [] w) : mW p l e rmX2_twins s m args below meth c E 4 Q 4 [(0, .ref (E.2.2.2.1 0)), (1, .int a.1), (2, .int a.2)] [] w := by
  intro H locs ls hP hS hl
  have hx := hC.1
  have hb := hC.2.1
  have hown := hC.2.2.2.2.2.1
  have hts := hC.2.2.2.2.2.2.1
  unfold fX2_twins_B4 at hE
  refine lv_iload_n hx hb dX2_twins_4 rfl (lv_at hl 2 rfl) ?_
  refine lv_aload_n hx hb dX2_twins_5 rfl (lv_at hl 0 rfl) ?_
  refine gM_7 hC hP dX2_twins_6 ?_
  refine lv_iconst (v := 0) hx hb dX2_twins_9 (by decide) ?_
  refine aM_0 hC hP (i := (0 : Int32)) (by decide) dX2_twins_10 ?_
  refine lv_icmp_ge (tgt := 82) hx hb dX2_twins_11 (by decide) (fun c_2 => ?_) (fun c_2 => ?_)
  · have hE := ip c_2 hE
    exact hx1 _ (Option.some.inj hE).symm H locs ls hP hS (lv_sub hl [1] rfl)
  · have hE := iq c_2 hE
    refine lv_iload_n hx hb dX2_twins_14 rfl (lv_at hl 2 rfl) ?_
    refine lv_iconst (v := 1) hx hb dX2_twins_15 (by decide) ?_
    refine lv_iadd hx hb dX2_twins_16 ?_
    refine lv_istore_n (lv' := [(3, .int (a.2 + (1 : Int32))), (0, .ref (E.2.2.2.1 0)), (1, .int a.1), (2, .int a.2)]) hx hb dX2_twins_17 rfl hl (Nat.le_of_ble_eq_true rfl) rfl (fun ls hl => ?_)
    obtain ⟨x_10, h_10, hE⟩ := ob hE
    refine lpo_walk (fun p_10 : Int32 × Int32 => mW p l e rmX2_twins s m args below meth c E 4 Q 18 [(0, .ref (E.2.2.2.1 0)), (1, .int p_10.1), (2, .int a.2), (3, .int p_10.2)] [] w) (fun q_10 : Int32 => mW p l e rmX2_twins s m args below meth c E 4 Q 76 [(0, .ref (E.2.2.2.1 0)), (1, .int q_10), (2, .int a.2)] [] w) (fun a_10 y_10 hB_10 hc_10 hx_10 => wX2_twins_B18 k a.2 w hC a_10 y_10 hB_10 hc_10 hx_10) _ _ x_10 h_10 ?_ H locs ls hP hS (lv_sub hl [1, 2, 3, 0] rfl)
    intro H locs ls hP hS hl
    refine lv_iinc (v := (a.2 + (1 : Int32))) (lv' := [(2, .int (a.2 + (1 : Int32))), (0, .ref (E.2.2.2.1 0)), (1, .int x_10)]) hx hb dX2_twins_76 hl (k := 2) rfl rfl (Nat.le_of_ble_eq_true rfl) rfl (fun ls hl => ?_)
    refine lv_goto (tgt := 4) hx hb dX2_twins_79 (by decide) ?_
    exact hc _ (Option.some.inj hE).symm H locs ls hP hS (lv_sub hl [1, 2, 0] rfl)
def fX2_twins (k : Nat) (z : MS)  : Option Int32 := (lpo (fX2_twins_B4 k  z) k ((0 : Int32), (0 : Int32))).bind fun x_11 => some x_11
set_option maxHeartbeats 1000000 in
theorem wX2_twins {l : Launch} {E : ME} (k : Nat) (z : MS)  (y : Int32) (hE : fX2_twins k z  = some y) : mM l yX2_twins (ws_ yX2_twins cX2_twins 4 (some .int)) rmX2_twins E z [] (some (.int y)) z := by
  refine m_met (by decide) rfl (Nat.le_of_ble_eq_true rfl) (fun p e s m args below meth c hC => ?_)
  intro H locs ls hP hS hl
  have hx := hC.1
  have hb := hC.2.1
  have hown := hC.2.2.2.2.2.1
  have hts := hC.2.2.2.2.2.2.1
  have hl : lv_has ls 4 [(0, .ref (E.2.2.2.1 0))] := hl
  unfold fX2_twins at hE
  refine lv_iconst (v := 0) hx hb dX2_twins_0 (by decide) ?_
  refine lv_istore_n (lv' := [(1, .int (0 : Int32)), (0, .ref (E.2.2.2.1 0))]) hx hb dX2_twins_1 rfl hl (Nat.le_of_ble_eq_true rfl) rfl (fun ls hl => ?_)
  refine lv_iconst (v := 0) hx hb dX2_twins_2 (by decide) ?_
  refine lv_istore_n (lv' := [(2, .int (0 : Int32)), (1, .int (0 : Int32)), (0, .ref (E.2.2.2.1 0))]) hx hb dX2_twins_3 rfl hl (Nat.le_of_ble_eq_true rfl) rfl (fun ls hl => ?_)
  obtain ⟨x_11, h_11, hE⟩ := ob hE
  refine lpo_walk (fun p_11 : Int32 × Int32 => mW p l e rmX2_twins s m args below meth c E 4 (mQ E below args s (some (.int y)) z) 4 [(0, .ref (E.2.2.2.1 0)), (1, .int p_11.1), (2, .int p_11.2)] [] z) (fun q_11 : Int32 => mW p l e rmX2_twins s m args below meth c E 4 (mQ E below args s (some (.int y)) z) 82 [(1, .int q_11)] [] z) (fun a_11 y_11 hB_11 hc_11 hx_11 => wX2_twins_B4 k  z hC a_11 y_11 hB_11 hc_11 hx_11) _ _ x_11 h_11 ?_ H locs ls hP hS (lv_sub hl [2, 1, 0] rfl)
  intro H locs ls hP hS hl
  refine lv_iload_n hx hb dX2_twins_82 rfl (lv_at hl 0 rfl) ?_
  obtain rfl := Option.some.inj hE
  exact m_iret hC hP hS dX2_twins_83
def fX2_odd_J49 (k : Nat) (w : MS) (x2 : Int32) (t0 : Int32) : Option ((Int32 × Int32) ⊕ Int32) := some (.inl ((t0 ||| (0 : Int32)), (x2 + (1 : Int32))))
set_option maxHeartbeats 1000000 in
theorem wX2_odd_J49 {p : Program} {l : Launch} {e : Env} {s : State} {m : MethodId} {args : Array Value} {below : List Frame} {meth : Method} {c : Code} {E : ME} {Q : State → Prop} (k : Nat) (w : MS) (x2 : Int32) (t0 : Int32) (hC : mC E cX2_odd 3 (some .int) p s m args meth c) (y : (Int32 × Int32) ⊕ Int32) (hE : fX2_odd_J49 k w x2 t0 = some y) (hc : ∀ a : Int32 × Int32, y = .inl a → mW p l e rmX2_odd s m args below meth c E 3 Q 4 [(0, .ref (E.2.2.2.1 0)), (1, .int a.1), (2, .int a.2)] [] w) (hx1 : ∀ b : Int32, y = .inr b → mW p l e rmX2_odd s m args below meth c E 3 Q 58 [(1, .int b)] [] w) : mW p l e rmX2_odd s m args below meth c E 3 Q 49 [(0, .ref (E.2.2.2.1 0)), (2, .int x2)] [.int t0] w := by
  intro H locs ls hP hS hl
  have hx := hC.1
  have hb := hC.2.1
  have hown := hC.2.2.2.2.2.1
  have hts := hC.2.2.2.2.2.2.1
  unfold fX2_odd_J49 at hE
  refine lv_iconst (v := 0) hx hb dX2_odd_49 (by decide) ?_
  refine lv_ior hx hb dX2_odd_50 ?_
  refine lv_istore_n (lv' := [(1, .int (t0 ||| (0 : Int32))), (0, .ref (E.2.2.2.1 0)), (2, .int x2)]) hx hb dX2_odd_51 rfl hl (Nat.le_of_ble_eq_true rfl) rfl (fun ls hl => ?_)
  refine lv_iinc (v := (x2 + (1 : Int32))) (lv' := [(2, .int (x2 + (1 : Int32))), (1, .int (t0 ||| (0 : Int32))), (0, .ref (E.2.2.2.1 0))]) hx hb dX2_odd_52 hl (k := 2) rfl rfl (Nat.le_of_ble_eq_true rfl) rfl (fun ls hl => ?_)
  refine lv_goto (tgt := 4) hx hb dX2_odd_55 (by decide) ?_
  exact hc _ (Option.some.inj hE).symm H locs ls hP hS (lv_sub hl [2, 1, 0] rfl)
def fX2_odd_B4 (k : Nat)  (w : MS) (a : Int32 × Int32) : Option ((Int32 × Int32) ⊕ Int32) := if (w.2.2.1 0 (0 : Int32).toNatClampNeg) ≤ a.2 then (some (.inr a.1)) else (if ib ((69 : Int32) + a.2) 3205 then none else (if (w.2.2.1 0 ((69 : Int32) + a.2).toNatClampNeg) = (-1 : Int32) then ((fX2_odd_J49 k w a.2 a.1)) else (if ib ((69 : Int32) + a.2) 3205 then none else (if ((w.2.2.1 0 ((69 : Int32) + a.2).toNatClampNeg) - (w.2.2.1 0 ((69 : Int32) + a.2).toNatClampNeg) / (2 : Int32) * (2 : Int32)) = (1 : Int32) then (some (.inl ((a.1 ||| ((1 : Int32) <<< (a.2 &&& 31))), (a.2 + (1 : Int32))))) else ((fX2_odd_J49 k w a.2 a.1))))))
set_option maxHeartbeats 1000000 in
theorem wX2_odd_B4 {p : Program} {l : Launch} {e : Env} {s : State} {m : MethodId} {args : Array Value} {below : List Frame} {meth : Method} {c : Code} {E : ME} {Q : State → Prop} (k : Nat)  (w : MS) (hC : mC E cX2_odd 3 (some .int) p s m args meth c) (a : Int32 × Int32) (y : (Int32 × Int32) ⊕ Int32) (hE : fX2_odd_B4 k  w a = some y) (hc : ∀ a : Int32 × Int32, y = .inl a → mW p l e rmX2_odd s m args below meth c E 3 Q 4 [(0, .ref (E.2.2.2.1 0)), (1, .int a.1), (2, .int a.2)] [] w) (hx1 : ∀ b : Int32, y = .inr b → mW p l e rmX2_odd s m args below meth c E 3 Q 58 [(1, .int b)] [] w) : mW p l e rmX2_odd s m args below meth c E 3 Q 4 [(0, .ref (E.2.2.2.1 0)), (1, .int a.1), (2, .int a.2)] [] w := by
  intro H locs ls hP hS hl
  have hx := hC.1
  have hb := hC.2.1
  have hown := hC.2.2.2.2.2.1
  have hts := hC.2.2.2.2.2.2.1
  unfold fX2_odd_B4 at hE
  refine lv_iload_n hx hb dX2_odd_4 rfl (lv_at hl 2 rfl) ?_
  refine lv_aload_n hx hb dX2_odd_5 rfl (lv_at hl 0 rfl) ?_
  refine gM_7 hC hP dX2_odd_6 ?_
  refine lv_iconst (v := 0) hx hb dX2_odd_9 (by decide) ?_
  refine aM_0 hC hP (i := (0 : Int32)) (by decide) dX2_odd_10 ?_
  refine lv_icmp_ge (tgt := 58) hx hb dX2_odd_11 (by decide) (fun c_2 => ?_) (fun c_2 => ?_)
  · have hE := ip c_2 hE
    exact hx1 _ (Option.some.inj hE).symm H locs ls hP hS (lv_sub hl [1] rfl)
  · have hE := iq c_2 hE
    refine lv_iload_n hx hb dX2_odd_14 rfl (lv_at hl 1 rfl) ?_
    refine lv_aload_n hx hb dX2_odd_15 rfl (lv_at hl 0 rfl) ?_
    refine gM_7 hC hP dX2_odd_16 ?_
    refine lv_bipush (v := 69) hx hb dX2_odd_19 (by decide) ?_
    refine lv_iload_n hx hb dX2_odd_21 rfl (lv_at hl 2 rfl) ?_
    refine lv_iadd hx hb dX2_odd_22 ?_
    obtain ⟨c_3, hE⟩ := og hE
    refine aM_0 hC hP c_3 dX2_odd_23 ?_
    refine lv_iconst (v := -1) hx hb dX2_odd_24 (by decide) ?_
    refine lv_icmp_eq (tgt := 49) hx hb dX2_odd_25 (by decide) (fun c_4 => ?_) (fun c_4 => ?_)
    · have hE := ip c_4 hE
      exact wX2_odd_J49 k w a.2 a.1 hC y hE hc hx1 H locs ls hP hS (lv_sub hl [0, 2] rfl)
    · have hE := iq c_4 hE
      refine lv_aload_n hx hb dX2_odd_28 rfl (lv_at hl 0 rfl) ?_
      refine gM_7 hC hP dX2_odd_29 ?_
      refine lv_bipush (v := 69) hx hb dX2_odd_32 (by decide) ?_
      refine lv_iload_n hx hb dX2_odd_34 rfl (lv_at hl 2 rfl) ?_
      refine lv_iadd hx hb dX2_odd_35 ?_
      obtain ⟨c_5, hE⟩ := og hE
      refine aM_0 hC hP c_5 dX2_odd_36 ?_
      refine lv_iconst (v := 2) hx hb dX2_odd_37 (by decide) ?_
      refine lv_irem hx hb dX2_odd_38 (by decide) ?_
      refine lv_iconst (v := 1) hx hb dX2_odd_39 (by decide) ?_
      refine lv_icmp_ne (tgt := 49) hx hb dX2_odd_40 (by decide) (fun c_6 => ?_) (fun c_6 => ?_)
      · have hE := iq c_6 hE
        exact wX2_odd_J49 k w a.2 a.1 hC y hE hc hx1 H locs ls hP hS (lv_sub hl [0, 2] rfl)
      · have hE := ip c_6 hE
        refine lv_iconst (v := 1) hx hb dX2_odd_43 (by decide) ?_
        refine lv_iload_n hx hb dX2_odd_44 rfl (lv_at hl 2 rfl) ?_
        refine lv_ishl hx hb dX2_odd_45 ?_
        refine lv_goto (tgt := 50) hx hb dX2_odd_46 (by decide) ?_
        refine lv_ior hx hb dX2_odd_50 ?_
        refine lv_istore_n (lv' := [(1, .int (a.1 ||| ((1 : Int32) <<< (a.2 &&& 31)))), (0, .ref (E.2.2.2.1 0)), (2, .int a.2)]) hx hb dX2_odd_51 rfl hl (Nat.le_of_ble_eq_true rfl) rfl (fun ls hl => ?_)
        refine lv_iinc (v := (a.2 + (1 : Int32))) (lv' := [(2, .int (a.2 + (1 : Int32))), (1, .int (a.1 ||| ((1 : Int32) <<< (a.2 &&& 31)))), (0, .ref (E.2.2.2.1 0))]) hx hb dX2_odd_52 hl (k := 2) rfl rfl (Nat.le_of_ble_eq_true rfl) rfl (fun ls hl => ?_)
        refine lv_goto (tgt := 4) hx hb dX2_odd_55 (by decide) ?_
        exact hc _ (Option.some.inj hE).symm H locs ls hP hS (lv_sub hl [2, 1, 0] rfl)
def fX2_odd (k : Nat) (z : MS)  : Option Int32 := (lpo (fX2_odd_B4 k  z) k ((0 : Int32), (0 : Int32))).bind fun x_7 => some x_7
set_option maxHeartbeats 1000000 in
theorem wX2_odd {l : Launch} {E : ME} (k : Nat) (z : MS)  (y : Int32) (hE : fX2_odd k z  = some y) : mM l yX2_odd (ws_ yX2_odd cX2_odd 3 (some .int)) rmX2_odd E z [] (some (.int y)) z := by
  refine m_met (by decide) rfl (Nat.le_of_ble_eq_true rfl) (fun p e s m args below meth c hC => ?_)
  intro H locs ls hP hS hl
  have hx := hC.1
  have hb := hC.2.1
  have hown := hC.2.2.2.2.2.1
  have hts := hC.2.2.2.2.2.2.1
  have hl : lv_has ls 3 [(0, .ref (E.2.2.2.1 0))] := hl
  unfold fX2_odd at hE
  refine lv_iconst (v := 0) hx hb dX2_odd_0 (by decide) ?_
  refine lv_istore_n (lv' := [(1, .int (0 : Int32)), (0, .ref (E.2.2.2.1 0))]) hx hb dX2_odd_1 rfl hl (Nat.le_of_ble_eq_true rfl) rfl (fun ls hl => ?_)
  refine lv_iconst (v := 0) hx hb dX2_odd_2 (by decide) ?_
  refine lv_istore_n (lv' := [(2, .int (0 : Int32)), (1, .int (0 : Int32)), (0, .ref (E.2.2.2.1 0))]) hx hb dX2_odd_3 rfl hl (Nat.le_of_ble_eq_true rfl) rfl (fun ls hl => ?_)
  obtain ⟨x_7, h_7, hE⟩ := ob hE
  refine lpo_walk (fun p_7 : Int32 × Int32 => mW p l e rmX2_odd s m args below meth c E 3 (mQ E below args s (some (.int y)) z) 4 [(0, .ref (E.2.2.2.1 0)), (1, .int p_7.1), (2, .int p_7.2)] [] z) (fun q_7 : Int32 => mW p l e rmX2_odd s m args below meth c E 3 (mQ E below args s (some (.int y)) z) 58 [(1, .int q_7)] [] z) (fun a_7 y_7 hB_7 hc_7 hx_7 => wX2_odd_B4 k  z hC a_7 y_7 hB_7 hc_7 hx_7) _ _ x_7 h_7 ?_ H locs ls hP hS (lv_sub hl [2, 1, 0] rfl)
  intro H locs ls hP hS hl
  refine lv_iload_n hx hb dX2_odd_58 rfl (lv_at hl 0 rfl) ?_
  obtain rfl := Option.some.inj hE
  exact m_iret hC hP hS dX2_odd_59
def fX2_thickest_B4 (k : Nat)  (w : MS) (a : Int32 × Int32) : Option ((Int32 × Int32) ⊕ Int32) := if (30 : Int32) ≤ a.2 then (some (.inr a.1)) else (if ib ((39 : Int32) + a.2) 3205 then none else (if ib ((39 : Int32) + a.1) 3205 then none else (if (w.2.2.1 0 ((39 : Int32) + a.2).toNatClampNeg) ≤ (w.2.2.1 0 ((39 : Int32) + a.1).toNatClampNeg) then (some (.inl (a.1, (a.2 + (1 : Int32))))) else (some (.inl (a.2, (a.2 + (1 : Int32))))))))
set_option maxHeartbeats 1000000 in
theorem wX2_thickest_B4 {p : Program} {l : Launch} {e : Env} {s : State} {m : MethodId} {args : Array Value} {below : List Frame} {meth : Method} {c : Code} {E : ME} {Q : State → Prop} (k : Nat)  (w : MS) (hC : mC E cX2_thickest 3 (some .int) p s m args meth c) (a : Int32 × Int32) (y : (Int32 × Int32) ⊕ Int32) (hE : fX2_thickest_B4 k  w a = some y) (hc : ∀ a : Int32 × Int32, y = .inl a → mW p l e rmX2_thickest s m args below meth c E 3 Q 4 [(0, .ref (E.2.2.2.1 0)), (1, .int a.1), (2, .int a.2)] [] w) (hx1 : ∀ b : Int32, y = .inr b → mW p l e rmX2_thickest s m args below meth c E 3 Q 39 [(1, .int b)] [] w) : mW p l e rmX2_thickest s m args below meth c E 3 Q 4 [(0, .ref (E.2.2.2.1 0)), (1, .int a.1), (2, .int a.2)] [] w := by
  intro H locs ls hP hS hl
  have hx := hC.1
  have hb := hC.2.1
  have hown := hC.2.2.2.2.2.1
  have hts := hC.2.2.2.2.2.2.1
  unfold fX2_thickest_B4 at hE
  refine lv_iload_n hx hb dX2_thickest_4 rfl (lv_at hl 2 rfl) ?_
  refine lv_bipush (v := 30) hx hb dX2_thickest_5 (by decide) ?_
  refine lv_icmp_ge (tgt := 39) hx hb dX2_thickest_7 (by decide) (fun c_1 => ?_) (fun c_1 => ?_)
  · have hE := ip c_1 hE
    exact hx1 _ (Option.some.inj hE).symm H locs ls hP hS (lv_sub hl [1] rfl)
  · have hE := iq c_1 hE
    refine lv_aload_n hx hb dX2_thickest_10 rfl (lv_at hl 0 rfl) ?_
    refine gM_7 hC hP dX2_thickest_11 ?_
    refine lv_bipush (v := 39) hx hb dX2_thickest_14 (by decide) ?_
    refine lv_iload_n hx hb dX2_thickest_16 rfl (lv_at hl 2 rfl) ?_
    refine lv_iadd hx hb dX2_thickest_17 ?_
    obtain ⟨c_2, hE⟩ := og hE
    refine aM_0 hC hP c_2 dX2_thickest_18 ?_
    refine lv_aload_n hx hb dX2_thickest_19 rfl (lv_at hl 0 rfl) ?_
    refine gM_7 hC hP dX2_thickest_20 ?_
    refine lv_bipush (v := 39) hx hb dX2_thickest_23 (by decide) ?_
    refine lv_iload_n hx hb dX2_thickest_25 rfl (lv_at hl 1 rfl) ?_
    refine lv_iadd hx hb dX2_thickest_26 ?_
    obtain ⟨c_3, hE⟩ := og hE
    refine aM_0 hC hP c_3 dX2_thickest_27 ?_
    refine lv_icmp_le (tgt := 33) hx hb dX2_thickest_28 (by decide) (fun c_4 => ?_) (fun c_4 => ?_)
    · have hE := ip c_4 hE
      refine lv_iinc (v := (a.2 + (1 : Int32))) (lv' := [(2, .int (a.2 + (1 : Int32))), (0, .ref (E.2.2.2.1 0)), (1, .int a.1)]) hx hb dX2_thickest_33 hl (k := 2) rfl rfl (Nat.le_of_ble_eq_true rfl) rfl (fun ls hl => ?_)
      refine lv_goto (tgt := 4) hx hb dX2_thickest_36 (by decide) ?_
      exact hc _ (Option.some.inj hE).symm H locs ls hP hS (lv_sub hl [1, 2, 0] rfl)
    · have hE := iq c_4 hE
      refine lv_iload_n hx hb dX2_thickest_31 rfl (lv_at hl 2 rfl) ?_
      refine lv_istore_n (lv' := [(1, .int a.2), (0, .ref (E.2.2.2.1 0)), (2, .int a.2)]) hx hb dX2_thickest_32 rfl hl (Nat.le_of_ble_eq_true rfl) rfl (fun ls hl => ?_)
      refine lv_iinc (v := (a.2 + (1 : Int32))) (lv' := [(2, .int (a.2 + (1 : Int32))), (1, .int a.2), (0, .ref (E.2.2.2.1 0))]) hx hb dX2_thickest_33 hl (k := 2) rfl rfl (Nat.le_of_ble_eq_true rfl) rfl (fun ls hl => ?_)
      refine lv_goto (tgt := 4) hx hb dX2_thickest_36 (by decide) ?_
      exact hc _ (Option.some.inj hE).symm H locs ls hP hS (lv_sub hl [2, 1, 0] rfl)
def fX2_thickest (k : Nat) (z : MS)  : Option Int32 := (lpo (fX2_thickest_B4 k  z) k ((0 : Int32), (1 : Int32))).bind fun x_5 => some x_5
set_option maxHeartbeats 1000000 in
theorem wX2_thickest {l : Launch} {E : ME} (k : Nat) (z : MS)  (y : Int32) (hE : fX2_thickest k z  = some y) : mM l yX2_thickest (ws_ yX2_thickest cX2_thickest 3 (some .int)) rmX2_thickest E z [] (some (.int y)) z := by
  refine m_met (by decide) rfl (Nat.le_of_ble_eq_true rfl) (fun p e s m args below meth c hC => ?_)
  intro H locs ls hP hS hl
  have hx := hC.1
  have hb := hC.2.1
  have hown := hC.2.2.2.2.2.1
  have hts := hC.2.2.2.2.2.2.1
  have hl : lv_has ls 3 [(0, .ref (E.2.2.2.1 0))] := hl
  unfold fX2_thickest at hE
  refine lv_iconst (v := 0) hx hb dX2_thickest_0 (by decide) ?_
  refine lv_istore_n (lv' := [(1, .int (0 : Int32)), (0, .ref (E.2.2.2.1 0))]) hx hb dX2_thickest_1 rfl hl (Nat.le_of_ble_eq_true rfl) rfl (fun ls hl => ?_)
  refine lv_iconst (v := 1) hx hb dX2_thickest_2 (by decide) ?_
  refine lv_istore_n (lv' := [(2, .int (1 : Int32)), (1, .int (0 : Int32)), (0, .ref (E.2.2.2.1 0))]) hx hb dX2_thickest_3 rfl hl (Nat.le_of_ble_eq_true rfl) rfl (fun ls hl => ?_)
  obtain ⟨x_5, h_5, hE⟩ := ob hE
  refine lpo_walk (fun p_5 : Int32 × Int32 => mW p l e rmX2_thickest s m args below meth c E 3 (mQ E below args s (some (.int y)) z) 4 [(0, .ref (E.2.2.2.1 0)), (1, .int p_5.1), (2, .int p_5.2)] [] z) (fun q_5 : Int32 => mW p l e rmX2_thickest s m args below meth c E 3 (mQ E below args s (some (.int y)) z) 39 [(1, .int q_5)] [] z) (fun a_5 y_5 hB_5 hc_5 hx_5 => wX2_thickest_B4 k  z hC a_5 y_5 hB_5 hc_5 hx_5) _ _ x_5 h_5 ?_ H locs ls hP hS (lv_sub hl [2, 1, 0] rfl)
  intro H locs ls hP hS hl
  refine lv_iload_n hx hb dX2_thickest_39 rfl (lv_at hl 0 rfl) ?_
  obtain rfl := Option.some.inj hE
  exact m_iret hC hP hS dX2_thickest_40
def fX2_foretold_B24 (k : Nat) (v1 : Int32) (v2 : Int32) (a : Int32 × MS) : Option ((Int32 × MS) ⊕ MS) := if (76 : Int32) ≤ a.1 then (some (.inr a.2)) else (if ib a.1 3205 then none else (if ib a.1 76 then none else (nm (mA a.2 25 (upd (a.2.2.2.1 25) a.1.toNatClampNeg (a.2.2.2.1 0 a.1.toNatClampNeg))) fun z_7 => some (.inl ((a.1 + (1 : Int32)), z_7)))))
set_option maxHeartbeats 1000000 in
theorem wX2_foretold_B24 {p : Program} {l : Launch} {e : Env} {s : State} {m : MethodId} {args : Array Value} {below : List Frame} {meth : Method} {c : Code} {E : ME} {Q : State → Prop} (k : Nat) (v1 : Int32) (v2 : Int32) (hC : mC E cX2_foretold 5 (some .int) p s m args meth c) (a : Int32 × MS) (y : (Int32 × MS) ⊕ MS) (hE : fX2_foretold_B24 k v1 v2 a = some y) (hc : ∀ a : Int32 × MS, y = .inl a → mW p l e rmX2_foretold s m args below meth c E 5 Q 24 [(0, .ref (E.2.2.2.1 0)), (1, .int v1), (2, .int v2), (3, .int a.1)] [] a.2) (hx1 : ∀ b : MS, y = .inr b → mW p l e rmX2_foretold s m args below meth c E 5 Q 48 [(0, .ref (E.2.2.2.1 0)), (1, .int v1), (2, .int v2)] [] b) : mW p l e rmX2_foretold s m args below meth c E 5 Q 24 [(0, .ref (E.2.2.2.1 0)), (1, .int v1), (2, .int v2), (3, .int a.1)] [] a.2 := by
  intro H locs ls hP hS hl
  have hx := hC.1
  have hb := hC.2.1
  have hown := hC.2.2.2.2.2.1
  have hts := hC.2.2.2.2.2.2.1
  unfold fX2_foretold_B24 at hE
  refine lv_iload_n hx hb dX2_foretold_24 rfl (lv_at hl 3 rfl) ?_
  refine lv_bipush (v := 76) hx hb dX2_foretold_25 (by decide) ?_
  refine lv_icmp_ge (tgt := 48) hx hb dX2_foretold_27 (by decide) (fun c_5 => ?_) (fun c_5 => ?_)
  · have hE := ip c_5 hE
    exact hx1 _ (Option.some.inj hE).symm H locs ls hP hS (lv_sub hl [0, 1, 2] rfl)
  · have hE := iq c_5 hE
    refine lv_aload_n hx hb dX2_foretold_30 rfl (lv_at hl 0 rfl) ?_
    refine gM_47 hC hP dX2_foretold_31 ?_
    refine lv_iload_n hx hb dX2_foretold_34 rfl (lv_at hl 3 rfl) ?_
    refine lv_aload_n hx hb dX2_foretold_35 rfl (lv_at hl 0 rfl) ?_
    refine gM_7 hC hP dX2_foretold_36 ?_
    refine lv_iload_n hx hb dX2_foretold_39 rfl (lv_at hl 3 rfl) ?_
    obtain ⟨c_6, hE⟩ := og hE
    refine aM_0 hC hP c_6 dX2_foretold_40 ?_
    obtain ⟨c_7, hE⟩ := og hE
    obtain ⟨z_7, ez_7, hE⟩ := on hE
    refine tM_25 hC hP hS c_7 ez_7 dX2_foretold_41 (fun H locs hP hS => ?_)
    refine lv_iinc (v := (a.1 + (1 : Int32))) (lv' := [(3, .int (a.1 + (1 : Int32))), (0, .ref (E.2.2.2.1 0)), (1, .int v1), (2, .int v2)]) hx hb dX2_foretold_42 hl (k := 3) rfl rfl (Nat.le_of_ble_eq_true rfl) rfl (fun ls hl => ?_)
    refine lv_goto (tgt := 24) hx hb dX2_foretold_45 (by decide) ?_
    exact hc _ (Option.some.inj hE).symm H locs ls hP hS (lv_sub hl [1, 2, 3, 0] rfl)
def fX2_foretold_B55 (k : Nat) (v1 : Int32) (v2 : Int32) (a : Int32 × MS) : Option ((Int32 × MS) ⊕ MS) := if v1 ≤ a.1 then (some (.inr a.2)) else (if (9999 : Int32) ≤ (a.2.2.2.1 0 (6 : Int32).toNatClampNeg) then (some (.inl ((a.1 + (1 : Int32)), a.2))) else ((fX2_pass k a.2 ).bind fun r_13 => some (.inl ((a.1 + (1 : Int32)), r_13))))
set_option maxHeartbeats 1000000 in
theorem wX2_foretold_B55 {p : Program} {l : Launch} {e : Env} {s : State} {m : MethodId} {args : Array Value} {below : List Frame} {meth : Method} {c : Code} {E : ME} {Q : State → Prop} (k : Nat) (v1 : Int32) (v2 : Int32) (hC : mC E cX2_foretold 5 (some .int) p s m args meth c) (a : Int32 × MS) (y : (Int32 × MS) ⊕ MS) (hE : fX2_foretold_B55 k v1 v2 a = some y) (hc : ∀ a : Int32 × MS, y = .inl a → mW p l e rmX2_foretold s m args below meth c E 5 Q 55 [(0, .ref (E.2.2.2.1 0)), (1, .int v1), (2, .int v2), (3, .int a.1)] [] a.2) (hx1 : ∀ b : MS, y = .inr b → mW p l e rmX2_foretold s m args below meth c E 5 Q 83 [(0, .ref (E.2.2.2.1 0)), (2, .int v2)] [] b) : mW p l e rmX2_foretold s m args below meth c E 5 Q 55 [(0, .ref (E.2.2.2.1 0)), (1, .int v1), (2, .int v2), (3, .int a.1)] [] a.2 := by
  intro H locs ls hP hS hl
  have hx := hC.1
  have hb := hC.2.1
  have hown := hC.2.2.2.2.2.1
  have hts := hC.2.2.2.2.2.2.1
  unfold fX2_foretold_B55 at hE
  refine lv_iload_n hx hb dX2_foretold_55 rfl (lv_at hl 3 rfl) ?_
  refine lv_iload_n hx hb dX2_foretold_56 rfl (lv_at hl 1 rfl) ?_
  refine lv_icmp_ge (tgt := 83) hx hb dX2_foretold_57 (by decide) (fun c_10 => ?_) (fun c_10 => ?_)
  · have hE := ip c_10 hE
    exact hx1 _ (Option.some.inj hE).symm H locs ls hP hS (lv_sub hl [0, 2] rfl)
  · have hE := iq c_10 hE
    refine lv_aload_n hx hb dX2_foretold_60 rfl (lv_at hl 0 rfl) ?_
    refine gM_7 hC hP dX2_foretold_61 ?_
    refine lv_bipush (v := 6) hx hb dX2_foretold_64 (by decide) ?_
    refine aM_0 hC hP (i := (6 : Int32)) (by decide) dX2_foretold_66 ?_
    refine lv_sipush (v := 9999) hx hb dX2_foretold_67 (by decide) ?_
    refine lv_icmp_ge (tgt := 77) hx hb dX2_foretold_70 (by decide) (fun c_12 => ?_) (fun c_12 => ?_)
    · have hE := ip c_12 hE
      refine lv_iinc (v := (a.1 + (1 : Int32))) (lv' := [(3, .int (a.1 + (1 : Int32))), (0, .ref (E.2.2.2.1 0)), (1, .int v1), (2, .int v2)]) hx hb dX2_foretold_77 hl (k := 3) rfl rfl (Nat.le_of_ble_eq_true rfl) rfl (fun ls hl => ?_)
      refine lv_goto (tgt := 55) hx hb dX2_foretold_80 (by decide) ?_
      exact hc _ (Option.some.inj hE).symm H locs ls hP hS (lv_sub hl [1, 2, 3, 0] rfl)
    · have hE := iq c_12 hE
      refine lv_aload_n hx hb dX2_foretold_73 rfl (lv_at hl 0 rfl) ?_
      obtain ⟨r_13, h_13, hE⟩ := ob hE
      refine m_callv [] hC hP hS hl.1 (wX2_pass k a.2  r_13 h_13) (cwV 0 hts lkX2_334 rfl rfl rfl cdX2_pass ⟨Nat.le_of_ble_eq_true rfl, Nat.le_of_ble_eq_true rfl⟩) rfl rfl (lv_room (Nat.le_of_ble_eq_true rfl)) dX2_foretold_74 (fun H locs hP hS => ?_)
      refine lv_iinc (v := (a.1 + (1 : Int32))) (lv' := [(3, .int (a.1 + (1 : Int32))), (0, .ref (E.2.2.2.1 0)), (1, .int v1), (2, .int v2)]) hx hb dX2_foretold_77 hl (k := 3) rfl rfl (Nat.le_of_ble_eq_true rfl) rfl (fun ls hl => ?_)
      refine lv_goto (tgt := 55) hx hb dX2_foretold_80 (by decide) ?_
      exact hc _ (Option.some.inj hE).symm H locs ls hP hS (lv_sub hl [1, 2, 3, 0] rfl)
def fX2_foretold_B97 (k : Nat) (v3 : Int32) (a : Int32 × MS) : Option ((Int32 × MS) ⊕ MS) := if (76 : Int32) ≤ a.1 then (some (.inr a.2)) else (if ib a.1 76 then none else (if ib a.1 3205 then none else (nm (mA a.2 0 (upd (a.2.2.2.1 0) a.1.toNatClampNeg (a.2.2.2.1 25 a.1.toNatClampNeg))) fun z_18 => some (.inl ((a.1 + (1 : Int32)), z_18)))))
set_option maxHeartbeats 1000000 in
theorem wX2_foretold_B97 {p : Program} {l : Launch} {e : Env} {s : State} {m : MethodId} {args : Array Value} {below : List Frame} {meth : Method} {c : Code} {E : ME} {Q : State → Prop} (k : Nat) (v3 : Int32) (hC : mC E cX2_foretold 5 (some .int) p s m args meth c) (a : Int32 × MS) (y : (Int32 × MS) ⊕ MS) (hE : fX2_foretold_B97 k v3 a = some y) (hc : ∀ a : Int32 × MS, y = .inl a → mW p l e rmX2_foretold s m args below meth c E 5 Q 97 [(0, .ref (E.2.2.2.1 0)), (3, .int v3), (4, .int a.1)] [] a.2) (hx1 : ∀ b : MS, y = .inr b → mW p l e rmX2_foretold s m args below meth c E 5 Q 124 [(0, .ref (E.2.2.2.1 0)), (3, .int v3)] [] b) : mW p l e rmX2_foretold s m args below meth c E 5 Q 97 [(0, .ref (E.2.2.2.1 0)), (3, .int v3), (4, .int a.1)] [] a.2 := by
  intro H locs ls hP hS hl
  have hx := hC.1
  have hb := hC.2.1
  have hown := hC.2.2.2.2.2.1
  have hts := hC.2.2.2.2.2.2.1
  unfold fX2_foretold_B97 at hE
  refine lv_iload hx hb dX2_foretold_97 (lv_at hl 2 rfl) ?_
  refine lv_bipush (v := 76) hx hb dX2_foretold_99 (by decide) ?_
  refine lv_icmp_ge (tgt := 124) hx hb dX2_foretold_101 (by decide) (fun c_16 => ?_) (fun c_16 => ?_)
  · have hE := ip c_16 hE
    exact hx1 _ (Option.some.inj hE).symm H locs ls hP hS (lv_sub hl [0, 1] rfl)
  · have hE := iq c_16 hE
    refine lv_aload_n hx hb dX2_foretold_104 rfl (lv_at hl 0 rfl) ?_
    refine gM_7 hC hP dX2_foretold_105 ?_
    refine lv_iload hx hb dX2_foretold_108 (lv_at hl 2 rfl) ?_
    refine lv_aload_n hx hb dX2_foretold_110 rfl (lv_at hl 0 rfl) ?_
    refine gM_47 hC hP dX2_foretold_111 ?_
    refine lv_iload hx hb dX2_foretold_114 (lv_at hl 2 rfl) ?_
    obtain ⟨c_17, hE⟩ := og hE
    refine aM_25 hC hP c_17 dX2_foretold_116 ?_
    obtain ⟨c_18, hE⟩ := og hE
    obtain ⟨z_18, ez_18, hE⟩ := on hE
    refine tM_0 hC hP hS c_18 ez_18 dX2_foretold_117 (fun H locs hP hS => ?_)
    refine lv_iinc (v := (a.1 + (1 : Int32))) (lv' := [(4, .int (a.1 + (1 : Int32))), (0, .ref (E.2.2.2.1 0)), (3, .int v3)]) hx hb dX2_foretold_118 hl (k := 2) rfl rfl (Nat.le_of_ble_eq_true rfl) rfl (fun ls hl => ?_)
    refine lv_goto (tgt := 97) hx hb dX2_foretold_121 (by decide) ?_
    exact hc _ (Option.some.inj hE).symm H locs ls hP hS (lv_sub hl [1, 2, 0] rfl)
def fX2_foretold (k : Nat) (z : MS) (x1 : Int32) (x2 : Int32) : Option (Int32 × MS) := (fX2_isIn x1 (1 : Int32) (60 : Int32)).bind fun r_1 => if r_1 = 0 then (some ((-2 : Int32), z)) else ((fX2_isChild z x2).bind fun r_3 => if r_3 = 0 then (some ((-2 : Int32), z)) else ((lpo (fX2_foretold_B24 k x1 x2) k ((6 : Int32), z)).bind fun x_8 => nm (mI x_8 23 (0 : Int32)) fun z_9 => (lpo (fX2_foretold_B55 k x1 x2) k ((0 : Int32), z_9)).bind fun x_14 => if ib ((69 : Int32) + x2) 3205 then none else ((lpo (fX2_foretold_B97 k (x_14.2.2.1 0 ((69 : Int32) + x2).toNatClampNeg)) k ((6 : Int32), x_14)).bind fun x_19 => nm (mI x_19 23 (1 : Int32)) fun z_20 => some ((x_14.2.2.1 0 ((69 : Int32) + x2).toNatClampNeg), z_20))))
set_option maxHeartbeats 1000000 in
theorem wX2_foretold {l : Launch} {E : ME} (k : Nat) (z : MS) (x1 : Int32) (x2 : Int32) (y : Int32 × MS) (hE : fX2_foretold k z x1 x2 = some y) : mM l yX2_foretold (ws_ yX2_foretold cX2_foretold 5 (some .int)) rmX2_foretold E z [.int x1, .int x2] (some (.int y.1)) y.2 := by
  refine m_met (by decide) rfl (Nat.le_of_ble_eq_true rfl) (fun p e s m args below meth c hC => ?_)
  intro H locs ls hP hS hl
  have hx := hC.1
  have hb := hC.2.1
  have hown := hC.2.2.2.2.2.1
  have hts := hC.2.2.2.2.2.2.1
  have hl : lv_has ls 5 [(0, .ref (E.2.2.2.1 0)), (1, .int x1), (2, .int x2)] := hl
  unfold fX2_foretold at hE
  refine lv_iload_n hx hb dX2_foretold_0 rfl (lv_at hl 1 rfl) ?_
  refine lv_iconst (v := 1) hx hb dX2_foretold_1 (by decide) ?_
  refine lv_bipush (v := 60) hx hb dX2_foretold_2 (by decide) ?_
  obtain ⟨r_1, h_1, hE⟩ := ob hE
  refine s_calli [.int x1, .int (1 : Int32), .int (60 : Int32)] hC.sC hl.1 (wX2_isIn x1 (1 : Int32) (60 : Int32) r_1 h_1) (va_cwS 3 hts lkX2_69 rfl rfl rfl cdX2_isIn ⟨Nat.le_of_ble_eq_true rfl, Nat.le_of_ble_eq_true rfl⟩) rfl rfl (lv_room (Nat.le_of_ble_eq_true rfl)) ⟨Nat.zero_le _, Nat.zero_le _⟩ dX2_foretold_4 ?_
  refine lv_if_eq (tgt := 18) hx hb dX2_foretold_7 (by decide) (fun c_2 => ?_) (fun c_2 => ?_)
  · have hE := ip c_2 hE
    refine lv_bipush (v := -2) hx hb dX2_foretold_18 (by decide) ?_
    obtain rfl := Option.some.inj hE
    exact m_iret hC hP hS dX2_foretold_20
  · have hE := iq c_2 hE
    refine lv_aload_n hx hb dX2_foretold_10 rfl (lv_at hl 0 rfl) ?_
    refine lv_iload_n hx hb dX2_foretold_11 rfl (lv_at hl 2 rfl) ?_
    obtain ⟨r_3, h_3, hE⟩ := ob hE
    refine m_calli [.int x2] hC hP hS hl.1 (wX2_isChild z x2 r_3 h_3) (cwV 1 hts lkX2_322 rfl rfl rfl cdX2_isChild ⟨Nat.le_of_ble_eq_true rfl, Nat.le_of_ble_eq_true rfl⟩) rfl rfl (lv_room (Nat.le_of_ble_eq_true rfl)) dX2_foretold_12 (fun H locs hP hS => ?_)
    refine lv_if_ne (tgt := 21) hx hb dX2_foretold_15 (by decide) (fun c_4 => ?_) (fun c_4 => ?_)
    · have hE := iq c_4 hE
      refine lv_bipush (v := 6) hx hb dX2_foretold_21 (by decide) ?_
      refine lv_istore_n (lv' := [(3, .int (6 : Int32)), (0, .ref (E.2.2.2.1 0)), (1, .int x1), (2, .int x2)]) hx hb dX2_foretold_23 rfl hl (Nat.le_of_ble_eq_true rfl) rfl (fun ls hl => ?_)
      obtain ⟨x_8, h_8, hE⟩ := ob hE
      refine lpo_walk (fun p_8 : Int32 × MS => mW p l e rmX2_foretold s m args below meth c E 5 (mQ E below args s (some (.int y.1)) y.2) 24 [(0, .ref (E.2.2.2.1 0)), (1, .int x1), (2, .int x2), (3, .int p_8.1)] [] p_8.2) (fun q_8 : MS => mW p l e rmX2_foretold s m args below meth c E 5 (mQ E below args s (some (.int y.1)) y.2) 48 [(0, .ref (E.2.2.2.1 0)), (1, .int x1), (2, .int x2)] [] q_8) (fun a_8 y_8 hB_8 hc_8 hx_8 => wX2_foretold_B24 k x1 x2 hC a_8 y_8 hB_8 hc_8 hx_8) _ _ x_8 h_8 ?_ H locs ls hP hS (lv_sub hl [1, 2, 3, 0] rfl)
      intro H locs ls hP hS hl
      refine lv_aload_n hx hb dX2_foretold_48 rfl (lv_at hl 0 rfl) ?_
      refine lv_iconst (v := 0) hx hb dX2_foretold_49 (by decide) ?_
      obtain ⟨z_9, ez_9, hE⟩ := on hE
      refine pM_43 hC hP hS ez_9 (by decide) (by decide) dX2_foretold_50 (fun H locs hP hS => ?_)
      refine lv_iconst (v := 0) hx hb dX2_foretold_53 (by decide) ?_
      refine lv_istore_n (lv' := [(3, .int (0 : Int32)), (0, .ref (E.2.2.2.1 0)), (1, .int x1), (2, .int x2)]) hx hb dX2_foretold_54 rfl hl (Nat.le_of_ble_eq_true rfl) rfl (fun ls hl => ?_)
      obtain ⟨x_14, h_14, hE⟩ := ob hE
      refine lpo_walk (fun p_14 : Int32 × MS => mW p l e rmX2_foretold s m args below meth c E 5 (mQ E below args s (some (.int y.1)) y.2) 55 [(0, .ref (E.2.2.2.1 0)), (1, .int x1), (2, .int x2), (3, .int p_14.1)] [] p_14.2) (fun q_14 : MS => mW p l e rmX2_foretold s m args below meth c E 5 (mQ E below args s (some (.int y.1)) y.2) 83 [(0, .ref (E.2.2.2.1 0)), (2, .int x2)] [] q_14) (fun a_14 y_14 hB_14 hc_14 hx_14 => wX2_foretold_B55 k x1 x2 hC a_14 y_14 hB_14 hc_14 hx_14) _ _ x_14 h_14 ?_ H locs ls hP hS (lv_sub hl [1, 2, 3, 0] rfl)
      intro H locs ls hP hS hl
      refine lv_aload_n hx hb dX2_foretold_83 rfl (lv_at hl 0 rfl) ?_
      refine gM_7 hC hP dX2_foretold_84 ?_
      refine lv_bipush (v := 69) hx hb dX2_foretold_87 (by decide) ?_
      refine lv_iload_n hx hb dX2_foretold_89 rfl (lv_at hl 1 rfl) ?_
      refine lv_iadd hx hb dX2_foretold_90 ?_
      obtain ⟨c_15, hE⟩ := og hE
      refine aM_0 hC hP c_15 dX2_foretold_91 ?_
      refine lv_istore_n (lv' := [(3, .int (x_14.2.2.1 0 ((69 : Int32) + x2).toNatClampNeg)), (0, .ref (E.2.2.2.1 0)), (2, .int x2)]) hx hb dX2_foretold_92 rfl hl (Nat.le_of_ble_eq_true rfl) rfl (fun ls hl => ?_)
      refine lv_bipush (v := 6) hx hb dX2_foretold_93 (by decide) ?_
      refine lv_istore (lv' := [(4, .int (6 : Int32)), (3, .int (x_14.2.2.1 0 ((69 : Int32) + x2).toNatClampNeg)), (0, .ref (E.2.2.2.1 0)), (2, .int x2)]) hx hb dX2_foretold_95 hl (Nat.le_of_ble_eq_true rfl) rfl (fun ls hl => ?_)
      obtain ⟨x_19, h_19, hE⟩ := ob hE
      refine lpo_walk (fun p_19 : Int32 × MS => mW p l e rmX2_foretold s m args below meth c E 5 (mQ E below args s (some (.int y.1)) y.2) 97 [(0, .ref (E.2.2.2.1 0)), (3, .int (x_14.2.2.1 0 ((69 : Int32) + x2).toNatClampNeg)), (4, .int p_19.1)] [] p_19.2) (fun q_19 : MS => mW p l e rmX2_foretold s m args below meth c E 5 (mQ E below args s (some (.int y.1)) y.2) 124 [(0, .ref (E.2.2.2.1 0)), (3, .int (x_14.2.2.1 0 ((69 : Int32) + x2).toNatClampNeg))] [] q_19) (fun a_19 y_19 hB_19 hc_19 hx_19 => wX2_foretold_B97 k (x_14.2.2.1 0 ((69 : Int32) + x2).toNatClampNeg) hC a_19 y_19 hB_19 hc_19 hx_19) _ _ x_19 h_19 ?_ H locs ls hP hS (lv_sub hl [2, 1, 0] rfl)
      intro H locs ls hP hS hl
      refine lv_aload_n hx hb dX2_foretold_124 rfl (lv_at hl 0 rfl) ?_
      refine lv_iconst (v := 1) hx hb dX2_foretold_125 (by decide) ?_
      obtain ⟨z_20, ez_20, hE⟩ := on hE
      refine pM_43 hC hP hS ez_20 (by decide) (by decide) dX2_foretold_126 (fun H locs hP hS => ?_)
      refine lv_iload_n hx hb dX2_foretold_129 rfl (lv_at hl 1 rfl) ?_
      obtain rfl := Option.some.inj hE
      exact m_iret hC hP hS dX2_foretold_130
    · have hE := ip c_4 hE
      refine lv_bipush (v := -2) hx hb dX2_foretold_18 (by decide) ?_
      obtain rfl := Option.some.inj hE
      exact m_iret hC hP hS dX2_foretold_20
def fX2_areRunning (z : MS) (x1 : Int32) (x2 : Int32) : Option Int32 := (fX2_isChild z x1).bind fun r_1 => if r_1 = 0 then (some (0 : Int32)) else ((fX2_isPlace x2).bind fun r_3 => if r_3 = 0 then (some (0 : Int32)) else (some (1 : Int32)))
set_option maxHeartbeats 1000000 in
theorem wX2_areRunning {l : Launch} {E : ME} (z : MS) (x1 : Int32) (x2 : Int32) (y : Int32) (hE : fX2_areRunning z x1 x2 = some y) : mM l yX2_areRunning (ws_ yX2_areRunning cX2_areRunning 3 (some .boolean)) rmX2_areRunning E z [.int x1, .int x2] (some (.int y)) z := by
  refine m_met (by decide) rfl (Nat.le_of_ble_eq_true rfl) (fun p e s m args below meth c hC => ?_)
  intro H locs ls hP hS hl
  have hx := hC.1
  have hb := hC.2.1
  have hown := hC.2.2.2.2.2.1
  have hts := hC.2.2.2.2.2.2.1
  have hl : lv_has ls 3 [(0, .ref (E.2.2.2.1 0)), (1, .int x1), (2, .int x2)] := hl
  unfold fX2_areRunning at hE
  refine lv_aload_n hx hb dX2_areRunning_0 rfl (lv_at hl 0 rfl) ?_
  refine lv_iload_n hx hb dX2_areRunning_1 rfl (lv_at hl 1 rfl) ?_
  obtain ⟨r_1, h_1, hE⟩ := ob hE
  refine m_calli [.int x1] hC hP hS hl.1 (wX2_isChild z x1 r_1 h_1) (cwV 1 hts lkX2_322 rfl rfl rfl cdX2_isChild ⟨Nat.le_of_ble_eq_true rfl, Nat.le_of_ble_eq_true rfl⟩) rfl rfl (lv_room (Nat.le_of_ble_eq_true rfl)) dX2_areRunning_2 (fun H locs hP hS => ?_)
  refine lv_if_eq (tgt := 19) hx hb dX2_areRunning_5 (by decide) (fun c_2 => ?_) (fun c_2 => ?_)
  · have hE := ip c_2 hE
    refine lv_iconst (v := 0) hx hb dX2_areRunning_19 (by decide) ?_
    obtain rfl := Option.some.inj hE
    exact m_zret (v := (0 : Int32)) hC hP hS (by decide) dX2_areRunning_20
  · have hE := iq c_2 hE
    refine lv_iload_n hx hb dX2_areRunning_8 rfl (lv_at hl 2 rfl) ?_
    obtain ⟨r_3, h_3, hE⟩ := ob hE
    refine s_calli [.int x2] hC.sC hl.1 (wX2_isPlace x2 r_3 h_3) (va_cwS 1 hts lkX2_73 rfl rfl rfl cdX2_isPlace ⟨Nat.le_of_ble_eq_true rfl, Nat.le_of_ble_eq_true rfl⟩) rfl rfl (lv_room (Nat.le_of_ble_eq_true rfl)) ⟨Nat.zero_le _, Nat.zero_le _⟩ dX2_areRunning_9 ?_
    refine lv_if_eq (tgt := 19) hx hb dX2_areRunning_12 (by decide) (fun c_4 => ?_) (fun c_4 => ?_)
    · have hE := ip c_4 hE
      refine lv_iconst (v := 0) hx hb dX2_areRunning_19 (by decide) ?_
      obtain rfl := Option.some.inj hE
      exact m_zret (v := (0 : Int32)) hC hP hS (by decide) dX2_areRunning_20
    · have hE := iq c_4 hE
      refine lv_iconst (v := 1) hx hb dX2_areRunning_15 (by decide) ?_
      refine lv_goto (tgt := 20) hx hb dX2_areRunning_16 (by decide) ?_
      obtain rfl := Option.some.inj hE
      exact m_zret (v := (1 : Int32)) hC hP hS (by decide) dX2_areRunning_20
def fX2_layBars_B7 (k : Nat) (v1 : Int32) (a : Int32 × MS) : Option ((Int32 × MS) ⊕ MS) := if (60 : Int32) ≤ a.1 then (some (.inr a.2)) else (if ib ((9 : Int32) + ((v1 + a.1) - (v1 + a.1) / (30 : Int32) * (30 : Int32))) 3205 then none else (if (a.2.2.2.1 0 ((9 : Int32) + ((v1 + a.1) - (v1 + a.1) / (30 : Int32) * (30 : Int32))).toNatClampNeg) = (3 : Int32) then (some (.inr a.2)) else ((fX2_isBar a.2 ((v1 + a.1) - (v1 + a.1) / (30 : Int32) * (30 : Int32))).bind fun r_5 => if r_5 = 0 then (some (.inl ((a.1 + (1 : Int32)), a.2))) else (if ib (a.2.1 27) 60 then none else (nm (mA a.2 26 (upd (a.2.2.2.1 26) (a.2.1 27).toNatClampNeg ((v1 + a.1) - (v1 + a.1) / (30 : Int32) * (30 : Int32)))) fun z_7 => nm (mI z_7 27 ((z_7.1 27) + (1 : Int32))) fun z_8 => some (.inl ((a.1 + (1 : Int32)), z_8)))))))
set_option maxHeartbeats 1000000 in
theorem wX2_layBars_B7 {p : Program} {l : Launch} {e : Env} {s : State} {m : MethodId} {args : Array Value} {below : List Frame} {meth : Method} {c : Code} {E : ME} {Q : State → Prop} (k : Nat) (v1 : Int32) (hC : mC E cX2_layBars 4 none p s m args meth c) (a : Int32 × MS) (y : (Int32 × MS) ⊕ MS) (hE : fX2_layBars_B7 k v1 a = some y) (hc : ∀ a : Int32 × MS, y = .inl a → mW p l e rmX2_layBars s m args below meth c E 4 Q 7 [(0, .ref (E.2.2.2.1 0)), (1, .int v1), (2, .int a.1)] [] a.2) (hx1 : ∀ b : MS, y = .inr b → mW p l e rmX2_layBars s m args below meth c E 4 Q 75 [] [] b) : mW p l e rmX2_layBars s m args below meth c E 4 Q 7 [(0, .ref (E.2.2.2.1 0)), (1, .int v1), (2, .int a.1)] [] a.2 := by
  intro H locs ls hP hS hl
  have hx := hC.1
  have hb := hC.2.1
  have hown := hC.2.2.2.2.2.1
  have hts := hC.2.2.2.2.2.2.1
  unfold fX2_layBars_B7 at hE
  refine lv_iload_n hx hb dX2_layBars_7 rfl (lv_at hl 2 rfl) ?_
  refine lv_bipush (v := 60) hx hb dX2_layBars_8 (by decide) ?_
  refine lv_icmp_ge (tgt := 75) hx hb dX2_layBars_10 (by decide) (fun c_2 => ?_) (fun c_2 => ?_)
  · have hE := ip c_2 hE
    exact hx1 _ (Option.some.inj hE).symm H locs ls hP hS (lv_sub hl [] rfl)
  · have hE := iq c_2 hE
    refine lv_aload_n hx hb dX2_layBars_13 rfl (lv_at hl 0 rfl) ?_
    refine gM_7 hC hP dX2_layBars_14 ?_
    refine lv_bipush (v := 9) hx hb dX2_layBars_17 (by decide) ?_
    refine lv_iload_n hx hb dX2_layBars_19 rfl (lv_at hl 1 rfl) ?_
    refine lv_iload_n hx hb dX2_layBars_20 rfl (lv_at hl 2 rfl) ?_
    refine lv_iadd hx hb dX2_layBars_21 ?_
    refine lv_bipush (v := 30) hx hb dX2_layBars_22 (by decide) ?_
    refine lv_irem hx hb dX2_layBars_24 (by decide) ?_
    refine lv_iadd hx hb dX2_layBars_25 ?_
    obtain ⟨c_3, hE⟩ := og hE
    refine aM_0 hC hP c_3 dX2_layBars_26 ?_
    refine lv_iconst (v := 3) hx hb dX2_layBars_27 (by decide) ?_
    refine lv_icmp_eq (tgt := 75) hx hb dX2_layBars_28 (by decide) (fun c_4 => ?_) (fun c_4 => ?_)
    · have hE := ip c_4 hE
      exact hx1 _ (Option.some.inj hE).symm H locs ls hP hS (lv_sub hl [] rfl)
    · have hE := iq c_4 hE
      refine lv_iload_n hx hb dX2_layBars_31 rfl (lv_at hl 1 rfl) ?_
      refine lv_iload_n hx hb dX2_layBars_32 rfl (lv_at hl 2 rfl) ?_
      refine lv_iadd hx hb dX2_layBars_33 ?_
      refine lv_bipush (v := 30) hx hb dX2_layBars_34 (by decide) ?_
      refine lv_irem hx hb dX2_layBars_36 (by decide) ?_
      refine lv_istore_n (lv' := [(3, .int ((v1 + a.1) - (v1 + a.1) / (30 : Int32) * (30 : Int32))), (0, .ref (E.2.2.2.1 0)), (1, .int v1), (2, .int a.1)]) hx hb dX2_layBars_37 rfl hl (Nat.le_of_ble_eq_true rfl) rfl (fun ls hl => ?_)
      refine lv_aload_n hx hb dX2_layBars_38 rfl (lv_at hl 1 rfl) ?_
      refine lv_iload_n hx hb dX2_layBars_39 rfl (lv_at hl 0 rfl) ?_
      obtain ⟨r_5, h_5, hE⟩ := ob hE
      refine m_calli [.int ((v1 + a.1) - (v1 + a.1) / (30 : Int32) * (30 : Int32))] hC hP hS hl.1 (wX2_isBar a.2 ((v1 + a.1) - (v1 + a.1) / (30 : Int32) * (30 : Int32)) r_5 h_5) (cwV 1 hts lkX2_300 rfl rfl rfl cdX2_isBar ⟨Nat.le_of_ble_eq_true rfl, Nat.le_of_ble_eq_true rfl⟩) rfl rfl (lv_room (Nat.le_of_ble_eq_true rfl)) dX2_layBars_40 (fun H locs hP hS => ?_)
      refine lv_if_ne (tgt := 49) hx hb dX2_layBars_43 (by decide) (fun c_6 => ?_) (fun c_6 => ?_)
      · have hE := iq c_6 hE
        refine lv_aload_n hx hb dX2_layBars_49 rfl (lv_at hl 1 rfl) ?_
        refine gM_50 hC hP dX2_layBars_50 ?_
        refine lv_aload_n hx hb dX2_layBars_53 rfl (lv_at hl 1 rfl) ?_
        refine gM_373 hC hP dX2_layBars_54 ?_
        refine lv_iload_n hx hb dX2_layBars_57 rfl (lv_at hl 0 rfl) ?_
        obtain ⟨c_7, hE⟩ := og hE
        obtain ⟨z_7, ez_7, hE⟩ := on hE
        refine tM_26 hC hP hS c_7 ez_7 dX2_layBars_58 (fun H locs hP hS => ?_)
        refine lv_aload_n hx hb dX2_layBars_59 rfl (lv_at hl 1 rfl) ?_
        refine lv_dup hx hb dX2_layBars_60 rfl ?_
        refine gM_373 hC hP dX2_layBars_61 ?_
        refine lv_iconst (v := 1) hx hb dX2_layBars_64 (by decide) ?_
        refine lv_iadd hx hb dX2_layBars_65 ?_
        obtain ⟨z_8, ez_8, hE⟩ := on hE
        refine pM_373 hC hP hS ez_8 dX2_layBars_66 (fun H locs hP hS => ?_)
        refine lv_iinc (v := (a.1 + (1 : Int32))) (lv' := [(2, .int (a.1 + (1 : Int32))), (3, .int ((v1 + a.1) - (v1 + a.1) / (30 : Int32) * (30 : Int32))), (0, .ref (E.2.2.2.1 0)), (1, .int v1)]) hx hb dX2_layBars_69 hl (k := 3) rfl rfl (Nat.le_of_ble_eq_true rfl) rfl (fun ls hl => ?_)
        refine lv_goto (tgt := 7) hx hb dX2_layBars_72 (by decide) ?_
        exact hc _ (Option.some.inj hE).symm H locs ls hP hS (lv_sub hl [2, 3, 0] rfl)
      · have hE := ip c_6 hE
        refine lv_goto (tgt := 69) hx hb dX2_layBars_46 (by decide) ?_
        refine lv_iinc (v := (a.1 + (1 : Int32))) (lv' := [(2, .int (a.1 + (1 : Int32))), (3, .int ((v1 + a.1) - (v1 + a.1) / (30 : Int32) * (30 : Int32))), (0, .ref (E.2.2.2.1 0)), (1, .int v1)]) hx hb dX2_layBars_69 hl (k := 3) rfl rfl (Nat.le_of_ble_eq_true rfl) rfl (fun ls hl => ?_)
        refine lv_goto (tgt := 7) hx hb dX2_layBars_72 (by decide) ?_
        exact hc _ (Option.some.inj hE).symm H locs ls hP hS (lv_sub hl [2, 3, 0] rfl)
def fX2_layBars (k : Nat) (z : MS) (x1 : Int32) : Option MS := nm (mI z 27 (0 : Int32)) fun z_1 => (lpo (fX2_layBars_B7 k x1) k ((0 : Int32), z_1)).bind fun x_9 => some x_9
set_option maxHeartbeats 1000000 in
theorem wX2_layBars {l : Launch} {E : ME} (k : Nat) (z : MS) (x1 : Int32) (y : MS) (hE : fX2_layBars k z x1 = some y) : mM l yX2_layBars (ws_ yX2_layBars cX2_layBars 4 none) rmX2_layBars E z [.int x1] none y := by
  refine m_met (by decide) rfl (Nat.le_of_ble_eq_true rfl) (fun p e s m args below meth c hC => ?_)
  intro H locs ls hP hS hl
  have hx := hC.1
  have hb := hC.2.1
  have hown := hC.2.2.2.2.2.1
  have hts := hC.2.2.2.2.2.2.1
  have hl : lv_has ls 4 [(0, .ref (E.2.2.2.1 0)), (1, .int x1)] := hl
  unfold fX2_layBars at hE
  refine lv_aload_n hx hb dX2_layBars_0 rfl (lv_at hl 0 rfl) ?_
  refine lv_iconst (v := 0) hx hb dX2_layBars_1 (by decide) ?_
  obtain ⟨z_1, ez_1, hE⟩ := on hE
  refine pM_373 hC hP hS ez_1 dX2_layBars_2 (fun H locs hP hS => ?_)
  refine lv_iconst (v := 0) hx hb dX2_layBars_5 (by decide) ?_
  refine lv_istore_n (lv' := [(2, .int (0 : Int32)), (0, .ref (E.2.2.2.1 0)), (1, .int x1)]) hx hb dX2_layBars_6 rfl hl (Nat.le_of_ble_eq_true rfl) rfl (fun ls hl => ?_)
  obtain ⟨x_9, h_9, hE⟩ := ob hE
  refine lpo_walk (fun p_9 : Int32 × MS => mW p l e rmX2_layBars s m args below meth c E 4 (mQ E below args s none y) 7 [(0, .ref (E.2.2.2.1 0)), (1, .int x1), (2, .int p_9.1)] [] p_9.2) (fun q_9 : MS => mW p l e rmX2_layBars s m args below meth c E 4 (mQ E below args s none y) 75 [] [] q_9) (fun a_9 y_9 hB_9 hc_9 hx_9 => wX2_layBars_B7 k x1 hC a_9 y_9 hB_9 hc_9 hx_9) _ _ x_9 h_9 ?_ H locs ls hP hS (lv_sub hl [1, 2, 0] rfl)
  intro H locs ls hP hS hl
  obtain rfl := Option.some.inj hE
  exact m_vret hC hP hS dX2_layBars_75
def fX2_caughtAt (k : Nat) (z : MS) (x1 : Int32) (x2 : Int32) : Option (Int32 × MS) := if ib (x2 - (1 : Int32)) 60 then none else ((fX2_catchesOf k z (z.2.2.1 0 (2 : Int32).toNatClampNeg) x1 (z.2.2.1 26 (x2 - (1 : Int32)).toNatClampNeg) x2).bind fun r_3 => some (r_3.1, r_3.2))
set_option maxHeartbeats 1000000 in
theorem wX2_caughtAt {l : Launch} {E : ME} (k : Nat) (z : MS) (x1 : Int32) (x2 : Int32) (y : Int32 × MS) (hE : fX2_caughtAt k z x1 x2 = some y) : mM l yX2_caughtAt (ws_ yX2_caughtAt cX2_caughtAt 3 (some .int)) rmX2_caughtAt E z [.int x1, .int x2] (some (.int y.1)) y.2 := by
  refine m_met (by decide) rfl (Nat.le_of_ble_eq_true rfl) (fun p e s m args below meth c hC => ?_)
  intro H locs ls hP hS hl
  have hx := hC.1
  have hb := hC.2.1
  have hown := hC.2.2.2.2.2.1
  have hts := hC.2.2.2.2.2.2.1
  have hl : lv_has ls 3 [(0, .ref (E.2.2.2.1 0)), (1, .int x1), (2, .int x2)] := hl
  unfold fX2_caughtAt at hE
  refine lv_aload_n hx hb dX2_caughtAt_0 rfl (lv_at hl 0 rfl) ?_
  refine lv_aload_n hx hb dX2_caughtAt_1 rfl (lv_at hl 0 rfl) ?_
  refine gM_7 hC hP dX2_caughtAt_2 ?_
  refine lv_iconst (v := 2) hx hb dX2_caughtAt_5 (by decide) ?_
  refine aM_0 hC hP (i := (2 : Int32)) (by decide) dX2_caughtAt_6 ?_
  refine lv_iload_n hx hb dX2_caughtAt_7 rfl (lv_at hl 1 rfl) ?_
  refine lv_aload_n hx hb dX2_caughtAt_8 rfl (lv_at hl 0 rfl) ?_
  refine gM_50 hC hP dX2_caughtAt_9 ?_
  refine lv_iload_n hx hb dX2_caughtAt_12 rfl (lv_at hl 2 rfl) ?_
  refine lv_iconst (v := 1) hx hb dX2_caughtAt_13 (by decide) ?_
  refine lv_isub hx hb dX2_caughtAt_14 ?_
  obtain ⟨c_2, hE⟩ := og hE
  refine aM_26 hC hP c_2 dX2_caughtAt_15 ?_
  refine lv_iload_n hx hb dX2_caughtAt_16 rfl (lv_at hl 2 rfl) ?_
  obtain ⟨r_3, h_3, hE⟩ := ob hE
  refine m_calli [.int (z.2.2.1 0 (2 : Int32).toNatClampNeg), .int x1, .int (z.2.2.1 26 (x2 - (1 : Int32)).toNatClampNeg), .int x2] hC hP hS hl.1 (wX2_catchesOf k z (z.2.2.1 0 (2 : Int32).toNatClampNeg) x1 (z.2.2.1 26 (x2 - (1 : Int32)).toNatClampNeg) x2 r_3 h_3) (cwV 4 hts lkX2_303 rfl rfl rfl cdX2_catchesOf ⟨Nat.le_of_ble_eq_true rfl, Nat.le_of_ble_eq_true rfl⟩) rfl rfl (lv_room (Nat.le_of_ble_eq_true rfl)) dX2_caughtAt_17 (fun H locs hP hS => ?_)
  obtain rfl := Option.some.inj hE
  exact m_iret hC hP hS dX2_caughtAt_20
def fX2_weightOf_B38 (k : Nat) (v1 : Int32) (v3 : Int32) (a : Int64 × Int32 × MS) : Option ((Int64 × Int32 × MS) ⊕ (Int64 × MS)) := if v3 ≤ a.2.1 then (some (.inr (a.1, a.2.2))) else ((fX2_caughtAt k a.2.2 v1 a.2.1).bind fun r_5 => some (.inl ((a.1 * ((10 : Int32) - r_5.1).toInt64), (a.2.1 + (1 : Int32)), r_5.2)))
set_option maxHeartbeats 1000000 in
theorem wX2_weightOf_B38 {p : Program} {l : Launch} {e : Env} {s : State} {m : MethodId} {args : Array Value} {below : List Frame} {meth : Method} {c : Code} {E : ME} {Q : State → Prop} (k : Nat) (v1 : Int32) (v3 : Int32) (hC : mC E cX2_weightOf 7 (some .long) p s m args meth c) (a : Int64 × Int32 × MS) (y : (Int64 × Int32 × MS) ⊕ (Int64 × MS)) (hE : fX2_weightOf_B38 k v1 v3 a = some y) (hc : ∀ a : Int64 × Int32 × MS, y = .inl a → mW p l e rmX2_weightOf s m args below meth c E 7 Q 38 [(0, .ref (E.2.2.2.1 0)), (1, .int v1), (3, .int v3), (4, .long a.1), (6, .int a.2.1)] [] a.2.2) (hx1 : ∀ b : Int64 × MS, y = .inr b → mW p l e rmX2_weightOf s m args below meth c E 7 Q 66 [(0, .ref (E.2.2.2.1 0)), (1, .int v1), (3, .int v3), (4, .long b.1)] [] b.2) : mW p l e rmX2_weightOf s m args below meth c E 7 Q 38 [(0, .ref (E.2.2.2.1 0)), (1, .int v1), (3, .int v3), (4, .long a.1), (6, .int a.2.1)] [] a.2.2 := by
  intro H locs ls hP hS hl
  have hx := hC.1
  have hb := hC.2.1
  have hown := hC.2.2.2.2.2.1
  have hts := hC.2.2.2.2.2.2.1
  unfold fX2_weightOf_B38 at hE
  refine lv_iload hx hb dX2_weightOf_38 (lv_at hl 4 rfl) ?_
  refine lv_iload_n hx hb dX2_weightOf_40 rfl (lv_at hl 2 rfl) ?_
  refine lv_icmp_ge (tgt := 66) hx hb dX2_weightOf_41 (by decide) (fun c_4 => ?_) (fun c_4 => ?_)
  · have hE := ip c_4 hE
    exact hx1 _ (Option.some.inj hE).symm H locs ls hP hS (lv_sub hl [0, 1, 2, 3] rfl)
  · have hE := iq c_4 hE
    refine lv_lload hx hb dX2_weightOf_44 (lv_at hl 3 rfl) ?_
    refine lv_bipush (v := 10) hx hb dX2_weightOf_46 (by decide) ?_
    refine lv_aload_n hx hb dX2_weightOf_48 rfl (lv_at hl 0 rfl) ?_
    refine lv_iload_n hx hb dX2_weightOf_49 rfl (lv_at hl 1 rfl) ?_
    refine lv_iload hx hb dX2_weightOf_50 (lv_at hl 4 rfl) ?_
    obtain ⟨r_5, h_5, hE⟩ := ob hE
    refine m_calli [.int v1, .int a.2.1] hC hP hS hl.1 (wX2_caughtAt k a.2.2 v1 a.2.1 r_5 h_5) (cwV 2 hts lkX2_379 rfl rfl rfl cdX2_caughtAt ⟨Nat.le_of_ble_eq_true rfl, Nat.le_of_ble_eq_true rfl⟩) rfl rfl (lv_room (Nat.le_of_ble_eq_true rfl)) dX2_weightOf_52 (fun H locs hP hS => ?_)
    refine lv_isub hx hb dX2_weightOf_55 ?_
    refine lv_i2l hx hb dX2_weightOf_56 rfl ?_
    refine lv_lmul hx hb dX2_weightOf_57 ?_
    refine lv_lstore (lv' := [(4, .long (a.1 * ((10 : Int32) - r_5.1).toInt64)), (0, .ref (E.2.2.2.1 0)), (1, .int v1), (3, .int v3), (6, .int a.2.1)]) hx hb dX2_weightOf_58 hl (Nat.le_of_ble_eq_true rfl) rfl (fun ls hl => ?_)
    refine lv_iinc (v := (a.2.1 + (1 : Int32))) (lv' := [(6, .int (a.2.1 + (1 : Int32))), (4, .long (a.1 * ((10 : Int32) - r_5.1).toInt64)), (0, .ref (E.2.2.2.1 0)), (1, .int v1), (3, .int v3)]) hx hb dX2_weightOf_60 hl (k := 4) rfl rfl (Nat.le_of_ble_eq_true rfl) rfl (fun ls hl => ?_)
    refine lv_goto (tgt := 38) hx hb dX2_weightOf_63 (by decide) ?_
    exact hc _ (Option.some.inj hE).symm H locs ls hP hS (lv_sub hl [2, 3, 4, 1, 0] rfl)
def fX2_weightOf (k : Nat) (z : MS) (x1 : Int32) (x2 : Int32) (x3 : Int32) : Option (Int64 × MS) := (fX2_layBars k z x2).bind fun r_1 => if x3 ≤ (r_1.1 27) then (if x3 = 0 then (if (r_1.1 27) = 0 then (some ((1 : Int64), r_1)) else (some ((0 : Int64), r_1))) else ((lpo (fX2_weightOf_B38 k x1 x3) k ((1 : Int64), (1 : Int32), r_1)).bind fun x_6 => if x3 = (x_6.2.1 27) then (some ((x_6.1 * (10 : Int32).toInt64), x_6.2)) else ((fX2_caughtAt k x_6.2 x1 x3).bind fun r_8 => some ((x_6.1 * r_8.1.toInt64), r_8.2)))) else (some ((0 : Int64), r_1))
set_option maxHeartbeats 1000000 in
theorem wX2_weightOf {l : Launch} {E : ME} (k : Nat) (z : MS) (x1 : Int32) (x2 : Int32) (x3 : Int32) (y : Int64 × MS) (hE : fX2_weightOf k z x1 x2 x3 = some y) : mM l yX2_weightOf (ws_ yX2_weightOf cX2_weightOf 7 (some .long)) rmX2_weightOf E z [.int x1, .int x2, .int x3] (some (.long y.1)) y.2 := by
  refine m_met (by decide) rfl (Nat.le_of_ble_eq_true rfl) (fun p e s m args below meth c hC => ?_)
  intro H locs ls hP hS hl
  have hx := hC.1
  have hb := hC.2.1
  have hown := hC.2.2.2.2.2.1
  have hts := hC.2.2.2.2.2.2.1
  have hl : lv_has ls 7 [(0, .ref (E.2.2.2.1 0)), (1, .int x1), (2, .int x2), (3, .int x3)] := hl
  unfold fX2_weightOf at hE
  refine lv_aload_n hx hb dX2_weightOf_0 rfl (lv_at hl 0 rfl) ?_
  refine lv_iload_n hx hb dX2_weightOf_1 rfl (lv_at hl 2 rfl) ?_
  obtain ⟨r_1, h_1, hE⟩ := ob hE
  refine m_callv [.int x2] hC hP hS hl.1 (wX2_layBars k z x2 r_1 h_1) (cwV 1 hts lkX2_376 rfl rfl rfl cdX2_layBars ⟨Nat.le_of_ble_eq_true rfl, Nat.le_of_ble_eq_true rfl⟩) rfl rfl (lv_room (Nat.le_of_ble_eq_true rfl)) dX2_weightOf_2 (fun H locs hP hS => ?_)
  refine lv_iload_n hx hb dX2_weightOf_5 rfl (lv_at hl 3 rfl) ?_
  refine lv_aload_n hx hb dX2_weightOf_6 rfl (lv_at hl 0 rfl) ?_
  refine gM_373 hC hP dX2_weightOf_7 ?_
  refine lv_icmp_le (tgt := 15) hx hb dX2_weightOf_10 (by decide) (fun c_2 => ?_) (fun c_2 => ?_)
  · have hE := ip c_2 hE
    refine lv_iload_n hx hb dX2_weightOf_15 rfl (lv_at hl 3 rfl) ?_
    refine lv_if_ne (tgt := 32) hx hb dX2_weightOf_16 (by decide) (fun c_3 => ?_) (fun c_3 => ?_)
    · have hE := iq c_3 hE
      refine lv_lconst (v := 1) hx hb dX2_weightOf_32 (by decide) ?_
      refine lv_lstore (lv' := [(4, .long (1 : Int64)), (0, .ref (E.2.2.2.1 0)), (1, .int x1), (2, .int x2), (3, .int x3)]) hx hb dX2_weightOf_33 hl (Nat.le_of_ble_eq_true rfl) rfl (fun ls hl => ?_)
      refine lv_iconst (v := 1) hx hb dX2_weightOf_35 (by decide) ?_
      refine lv_istore (lv' := [(6, .int (1 : Int32)), (4, .long (1 : Int64)), (0, .ref (E.2.2.2.1 0)), (1, .int x1), (2, .int x2), (3, .int x3)]) hx hb dX2_weightOf_36 hl (Nat.le_of_ble_eq_true rfl) rfl (fun ls hl => ?_)
      obtain ⟨x_6, h_6, hE⟩ := ob hE
      refine lpo_walk (fun p_6 : Int64 × Int32 × MS => mW p l e rmX2_weightOf s m args below meth c E 7 (mQ E below args s (some (.long y.1)) y.2) 38 [(0, .ref (E.2.2.2.1 0)), (1, .int x1), (3, .int x3), (4, .long p_6.1), (6, .int p_6.2.1)] [] p_6.2.2) (fun q_6 : Int64 × MS => mW p l e rmX2_weightOf s m args below meth c E 7 (mQ E below args s (some (.long y.1)) y.2) 66 [(0, .ref (E.2.2.2.1 0)), (1, .int x1), (3, .int x3), (4, .long q_6.1)] [] q_6.2) (fun a_6 y_6 hB_6 hc_6 hx_6 => wX2_weightOf_B38 k x1 x3 hC a_6 y_6 hB_6 hc_6 hx_6) _ _ x_6 h_6 ?_ H locs ls hP hS (lv_sub hl [2, 3, 5, 1, 0] rfl)
      intro H locs ls hP hS hl
      refine lv_lload hx hb dX2_weightOf_66 (lv_at hl 3 rfl) ?_
      refine lv_iload_n hx hb dX2_weightOf_68 rfl (lv_at hl 2 rfl) ?_
      refine lv_aload_n hx hb dX2_weightOf_69 rfl (lv_at hl 0 rfl) ?_
      refine gM_373 hC hP dX2_weightOf_70 ?_
      refine lv_icmp_ne (tgt := 81) hx hb dX2_weightOf_73 (by decide) (fun c_7 => ?_) (fun c_7 => ?_)
      · have hE := iq c_7 hE
        refine lv_aload_n hx hb dX2_weightOf_81 rfl (lv_at hl 0 rfl) ?_
        refine lv_iload_n hx hb dX2_weightOf_82 rfl (lv_at hl 1 rfl) ?_
        refine lv_iload_n hx hb dX2_weightOf_83 rfl (lv_at hl 2 rfl) ?_
        obtain ⟨r_8, h_8, hE⟩ := ob hE
        refine m_calli [.int x1, .int x3] hC hP hS hl.1 (wX2_caughtAt k x_6.2 x1 x3 r_8 h_8) (cwV 2 hts lkX2_379 rfl rfl rfl cdX2_caughtAt ⟨Nat.le_of_ble_eq_true rfl, Nat.le_of_ble_eq_true rfl⟩) rfl rfl (lv_room (Nat.le_of_ble_eq_true rfl)) dX2_weightOf_84 (fun H locs hP hS => ?_)
        refine lv_i2l hx hb dX2_weightOf_87 rfl ?_
        refine lv_lmul hx hb dX2_weightOf_88 ?_
        obtain rfl := Option.some.inj hE
        exact m_lret hC hP hS dX2_weightOf_89
      · have hE := ip c_7 hE
        refine lv_bipush (v := 10) hx hb dX2_weightOf_76 (by decide) ?_
        refine lv_goto (tgt := 87) hx hb dX2_weightOf_78 (by decide) ?_
        refine lv_i2l hx hb dX2_weightOf_87 rfl ?_
        refine lv_lmul hx hb dX2_weightOf_88 ?_
        obtain rfl := Option.some.inj hE
        exact m_lret hC hP hS dX2_weightOf_89
    · have hE := ip c_3 hE
      refine lv_aload_n hx hb dX2_weightOf_19 rfl (lv_at hl 0 rfl) ?_
      refine gM_373 hC hP dX2_weightOf_20 ?_
      refine lv_if_ne (tgt := 30) hx hb dX2_weightOf_23 (by decide) (fun c_9 => ?_) (fun c_9 => ?_)
      · have hE := iq c_9 hE
        refine lv_lconst (v := 0) hx hb dX2_weightOf_30 (by decide) ?_
        obtain rfl := Option.some.inj hE
        exact m_lret hC hP hS dX2_weightOf_31
      · have hE := ip c_9 hE
        refine lv_lconst (v := 1) hx hb dX2_weightOf_26 (by decide) ?_
        refine lv_goto (tgt := 31) hx hb dX2_weightOf_27 (by decide) ?_
        obtain rfl := Option.some.inj hE
        exact m_lret hC hP hS dX2_weightOf_31
  · have hE := iq c_2 hE
    refine lv_lconst (v := 0) hx hb dX2_weightOf_13 (by decide) ?_
    obtain rfl := Option.some.inj hE
    exact m_lret hC hP hS dX2_weightOf_14
