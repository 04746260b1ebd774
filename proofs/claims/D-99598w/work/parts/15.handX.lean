/-! X: loops that make cells, and what was written by hand -/
set_option maxRecDepth 100000
theorem oz : True := trivial
noncomputable def fX0_rules (V : XV) (z : XS) : Option Nat := if (z.2.1 8 (2 : Int32).toNatClampNeg) = -1 then some V.2.1 else (if ib (z.2.1 8 (2 : Int32).toNatClampNeg) 4 then none else z.2.2 16 (z.2.1 8 (2 : Int32).toNatClampNeg).toNatClampNeg)
theorem x_areto {p : Program} {l : Launch} {e : Env} {R : Room} {s : State} {m : MethodId} {args : Array Value} {below : List Frame} {meth : Method} {c : Code} {H : Heap} {locs : List Loc} {cells slots rc rs : Nat} {E : XE} {own : String} {cc : ByteArray} {nL : Nat} {z : XS} {ls : Array Slot} {pc : Nat} {C : String} (hC : xC E own cc nL (some (.object C)) p s m args meth c) (hP : va_P E.1 E.2.1 (xw E z) H) (hS : va_S (xF E s.heap.size) s.heap H locs) (hB : cells + rc ≤ R.cells ∧ slots + rs ≤ R.slots) (hdg : decode cc pc = .ok (.areturn, 1)) {a : Nat} : W p l e R s m args below meth c H locs cells slots (xQ E R below args s (some (.ref a)) z) (F0 m pc ls [.ref a]) := by
  obtain ⟨hx, hb, hr, hlocks, -⟩ := hC
  exact W.widen (Nat.le_trans (Nat.le_add_right _ _) hB.1) (Nat.le_trans (Nat.le_add_right _ _) hB.2) (W.aret (rt := .object C) hx hb hr (Or.inl ⟨_, rfl⟩) (Or.inr ⟨_, rfl⟩) (x_ret hS hP) hS.2.2 hdg hlocks)
theorem wX0_rules {l : Launch} {E : XE} (z : XS) (y : Nat) (hE : fX0_rules E.2.2.2.2.2 z = some y) : xM l yX0_rules (ws_ yX0_rules cX0_rules 1 (some (.object "RailingsCount$Text"))) rmX0_rules E z [.ref (E.2.2.1 0)] (some (.ref y)) z := by
  refine x_met (own := RX0) (by decide) rfl (Nat.le_of_ble_eq_true rfl) (fun p e s m args below meth c hC => ?_)
  intro H locs cells slots ls hP hS hB hl
  have hx := hC.1
  have hb := hC.2.1
  have hts := hC.2.2.2.2.2.2.1
  have hl : lv_has ls 1 [(0, .ref (E.2.2.1 0))] := hl
  unfold fX0_rules at hE
  refine lv_aload_n hx hb dX0_rules_0 rfl (lv_at hl 0 rfl) ?_
  refine gX_21 hC hP dX0_rules_1 ?_
  refine gN_62_1 hC hP dX0_rules_4 ?_
  refine lv_iconst (v := 2) hx hb dX0_rules_7 (by decide) ?_
  refine x_iald hC hP (⟨by decide, rfl, rfl⟩ : xint 8 6) (i := (2 : Int32)) (by decide) dX0_rules_8 ?_
  refine lv_iconst (v := -1) hx hb dX0_rules_9 (by decide) ?_
  refine lv_icmp_ne (tgt := 19) hx hb dX0_rules_10 (by decide) (fun c_1 => ?_) (fun c_1 => ?_)
  · rw [if_neg c_1] at hE
    obtain ⟨c_2, hE⟩ := og hE
    refine lv_aload_n hx hb dX0_rules_19 rfl (lv_at hl 0 rfl) ?_
    refine gX_21 hC hP dX0_rules_20 ?_
    refine gN_89_1 hC hP dX0_rules_23 ?_
    refine lv_aload_n hx hb dX0_rules_26 rfl (lv_at hl 0 rfl) ?_
    refine gX_21 hC hP dX0_rules_27 ?_
    refine gN_62_1 hC hP dX0_rules_30 ?_
    refine lv_iconst (v := 2) hx hb dX0_rules_33 (by decide) ?_
    refine x_iald hC hP (⟨by decide, rfl, rfl⟩ : xint 8 6) (i := (2 : Int32)) (by decide) dX0_rules_34 ?_
    refine x_tald hC hP (k := 16) ⟨by decide, rfl⟩ c_2 hE dX0_rules_35 ?_
    exact x_areto hC hP hS hB dX0_rules_36
  · skip
    rw [if_pos c_1] at hE
    obtain rfl := Option.some.inj hE
    have hS' : va_S (fun q => ¬ (E.2.2.2.2.1 q ∧ q < s.heap.size)) s.heap H locs := ⟨hS.1, fun q h1 h2 => hS.2.1 q h1 (fun h3 => h2 (fun h9 => xF_P hC.2.2.2.2.2.2.2.2.1 h9.2 h9.1 h3)), fun w hw h9 => xF_P hC.2.2.2.2.2.2.2.2.1 h9.2 h9.1 (hS.2.2 w hw)⟩
    refine va_gets hx hb (A := fun q => ¬ (E.2.2.2.2.1 q ∧ q < s.heap.size)) hC.2.2.2.2.2.2.2.2.2.2.2.2.1 hS' hC.2.2.2.2.2.1 (hts _ q889) (fun _ h9 => h9) dX0_rules_13 ?_
    refine lv_goto (tgt := 36) hx hb dX0_rules_16 (by decide) ?_
    exact x_areto hC hP hS hB dX0_rules_36
noncomputable def fX0_law (V : XV) (z : XS) (x1 : Nat) (x2 : Int32) (x3 : Int32) : Option Int32 := gdp (V.2.2 x1) (if x2 = 0 then fX0_held (match (V.1 x1).1 with | none => 1 | some f => f (z.2.1 4)) 0 x3 else if x2 = 1 then fX0_held (match (V.1 x1).2.1 with | none => 1 | some f => f (z.2.1 4)) 0 x3 else none)
theorem wX0_law {l : Launch} {E : XE} (z : XS) (x1 : Nat) (x2 : Int32) (x3 : Int32) (y : Int32) (hE : fX0_law E.2.2.2.2.2 z x1 x2 x3 = some y) : xM l yX0_law (ws_ yX0_law cX0_law 4 (some .int)) rmX0_law E z [.ref (E.2.2.1 0), .ref x1, .int x2, .int x3] (some (.int y)) z := by
  refine x_met (own := RX0) (by decide) rfl (Nat.le_of_ble_eq_true rfl) (fun p e s m args below meth c hC => ?_)
  intro H locs cells slots ls hP hS hB hl
  have hx := hC.1
  have hb := hC.2.1
  have hown := hC.2.2.2.2.2.1
  have hts := hC.2.2.2.2.2.2.1
  have hK := hC.2.2.2.2.2.2.2.1
  have hok := hC.2.2.2.2.2.2.2.2.1
  have hG := hC.2.2.2.2.2.2.2.2.2
  have hl : lv_has ls 4 [(0, .ref (E.2.2.1 0)), (1, .ref x1), (2, .int x2), (3, .int x3)] := hl
  unfold fX0_law at hE
  obtain ⟨hL, hE⟩ := ogp hE
  have hT : TextAt E x1 (E.2.2.2.2.2.1 x1) H := (hG.2.1 x1 hL).kept (fun q h1 h2 => hS.2.1 q h1 (xF_P hok h1 h2))
  generalize hv : E.2.2.2.2.2.1 x1 = tv at hT hE
  obtain ⟨la, dl, nn, lw, -, h2, -, h4, h5, h6, -⟩ := hT
  have eCx : eC E RX0 cX0_law 4 (some .int) p s m args meth c := ⟨hC.sC, hK, hok.2.1, hG.2.2.1⟩
  have hA : va_at E.1 E.2.1 (E.2.2.1 4, .inl (E.2.2.2.1 0, 38, .inl (z.2.1 4))) H := by
    have := hP 4 _ (xw_get E z (k := 4) (by decide))
    rw [xcont_int (⟨by decide, rfl, rfl⟩ : xint 4 38)] at this
    exact this
  have hend : ∀ (r : Int64), fX0_held r 0 x3 = some y → W p l e rmX0_law s m args below meth c H locs cells slots (xQ E rmX0_law below args s (some (.int y)) z) (F0 m 28 ls [.long r]) := by
    intro r hr
    refine lv_iconst (v := 0) hx hb dX0_law_28 (by decide) ?_
    refine lv_iload_n hx hb dX0_law_29 rfl (lv_at hl 3 rfl) ?_
    refine s_calli [.long r, .int 0, .int x3] hC.sC hl.1 (wX0_held r 0 x3 y hr) (va_cwS 3 hts lkX0_133 rfl rfl rfl cdX0_held ⟨Nat.le_of_ble_eq_true rfl, Nat.le_of_ble_eq_true rfl⟩) rfl rfl (lv_room (Nat.le_of_ble_eq_true rfl)) (hB0 hB) dX0_law_30 ?_
    exact x_iret hC hP hS hB dX0_law_33
  have main : ∀ (w : Option SemF) (hin : ¬ ib x2 2), LawAt E (lw x2.toNatClampNeg) w H → fX0_held (match w with | none => 1 | some f => f (z.2.1 4)) 0 x3 = some y → W p l e rmX0_law s m args below meth c H locs cells slots (xQ E rmX0_law below args s (some (.int y)) z) (F0 m 0 ls []) := by
    intro w hin hw hr
    refine lv_aload_n hx hb dX0_law_0 rfl (lv_at hl 1 rfl) ?_
    refine e_getNW (k := 0) (D := RX4) eCx h2 in_X4 (ci := 2) rfl (by decide) (nf_RailingsCount_121 hG.1) rfl rfl dX0_law_1 ?_
    refine lv_iload_n hx hb dX0_law_4 rfl (lv_at hl 2 rfl) ?_
    refine e_aldW (t := 4) (t0 := 4) eCx h4 rfl hin dX0_law_5 ?_
    cases ha : lw x2.toNatClampNeg with
    | none =>
      rw [ha] at hw
      match w, hw, hr with
      | none, _, hr =>
        refine lv_ifnonnullN hx hb dX0_law_6 ?_
        refine lv_lconst (v := 1) hx hb dX0_law_9 (by decide) ?_
        refine lv_goto (tgt := 28) hx hb dX0_law_10 (by decide) ?_
        exact hend 1 hr
      | some f, hw, _ => exact hw.elim
    | some a =>
      rw [ha] at hw
      match w, hw, hr with
      | none, hw, _ => exact hw.elim
      | some f, hw, hr =>
        obtain ⟨d, hd, hN⟩ := hw
        refine lv_ifnonnull (tgt := 13) hx hb dX0_law_6 (by decide) ?_
        refine lv_aload_n hx hb dX0_law_13 rfl (lv_at hl 1 rfl) ?_
        refine e_getNW (k := 0) (D := RX4) eCx h2 in_X4 (ci := 2) rfl (by decide) (nf_RailingsCount_121 hG.1) rfl rfl dX0_law_14 ?_
        refine lv_iload_n hx hb dX0_law_17 rfl (lv_at hl 2 rfl) ?_
        refine e_aldW (t := 4) (t0 := 4) eCx h4 rfl hin dX0_law_18 ?_
        rw [ha]
        refine lv_aload_n hx hb dX0_law_19 rfl (lv_at hl 0 rfl) ?_
        refine gX_39 hC hP dX0_law_20 ?_
        refine (e_calls l E E.2.2.2.2.1 hok.2.1 d).1 q905 eCx hA hN rfl hl.1 (by show d + 5 ≤ 300; omega) (by show d * 40 + 240 ≤ 20000; omega) (lv_room (Nat.le_of_ble_eq_true rfl)) (hB0 hB) dX0_law_23 ?_
        exact hend _ hr
  by_cases c0 : x2 = 0
  · subst c0
    rw [if_pos rfl] at hE
    exact main tv.1 (by decide) h5 hE
  · rw [if_neg c0] at hE
    by_cases c1 : x2 = 1
    · subst c1
      rw [if_pos rfl] at hE
      exact main tv.2.1 (by decide) h6 hE
    · rw [if_neg c1] at hE
      cases hE
noncomputable def fX0_worthOf_0 (V : XV) (z : XS) (x1 : Int32) (x2 : Int32) : Option Int64 := none
theorem wX0_worthOf_0 {l : Launch} {E : XE} (z : XS) (x1 : Int32) (x2 : Int32) (y : Int64) (hE : fX0_worthOf_0 E.2.2.2.2.2 z x1 x2 = some y) : xM l yX0_worthOf (ws_ yX0_worthOf cX0_worthOf 3 (some .long)) rmX0_worthOf_0 E z [.ref (E.2.2.1 0), .int x1, .int x2] (some (.long y)) z := by cases hE
/-- State.copy(int[], int[]): b becomes a -/
theorem wX1_copy {l : Launch} {E : XE} {z z1 : XS} {k0 k1 n : Nat} (h0 : xint k0 n) (h1 : xint k1 n) (hn : n < 2 ^ 31) (ez : z1 = xA z k1 (va_cpy (z.2.1 k0) (z.2.1 k1) 0 0 n)) : xM l yX1_copy (ws_ yX1_copy cX1_copy 2 none) rmX1_copy E z [.ref (E.2.2.1 k0), .ref (E.2.2.1 k1)] none z1 := by
  refine x_met (own := RX1) (by decide) rfl (Nat.le_of_ble_eq_true rfl) (fun p e s m args below meth c hC => ?_)
  intro H locs cells slots ls hP hS hB hl
  have hx := hC.1
  have hb := hC.2.1
  have hl : lv_has ls 2 [(0, .ref (E.2.2.1 k0)), (1, .ref (E.2.2.1 k1))] := hl
  have hcl : (Int32.ofNat n).toNatClampNeg = n := nI_clamp hn
  refine lv_aload_n hx hb dX1_copy_0 rfl (lv_at hl 0 rfl) ?_
  refine lv_iconst (v := 0) hx hb dX1_copy_1 (by decide) ?_
  refine lv_aload_n hx hb dX1_copy_2 rfl (lv_at hl 1 rfl) ?_
  refine lv_iconst (v := 0) hx hb dX1_copy_3 (by decide) ?_
  refine lv_aload_n hx hb dX1_copy_4 rfl (lv_at hl 0 rfl) ?_
  refine x_ilen hC hP h0 (v := Int32.ofNat n) rfl dX1_copy_5 ?_
  refine x_copy (z1 := z1) hC hP hS hl.1 h0 h1 q226 (by decide) (by decide) (nI_pos hn) (by rw [hcl]; show 0 + n ≤ n; omega) (by rw [hcl]; show 0 + n ≤ n; omega) (by rw [hcl]; exact ez) (Nat.le_of_ble_eq_true rfl) (by decide) dX1_copy_6 (fun H locs hP hS => ?_)
  exact x_vret hC hP hS hB dX1_copy_9
