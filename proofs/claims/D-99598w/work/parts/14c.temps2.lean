/-! State.copy out of a temporary array; State.adds; RailingsCount.leftBy -/
set_option maxRecDepth 100000
def tA (E : XE) (sz q : Nat) : Nat → Prop := fun x => xF E sz x ∨ x = q
theorem xt_joinA {E : XE} {z : XS} {q n sz : Nat} {f : Nat → Int32} {H : Heap} (hi : xInj E) (hP : va_P E.1 E.2.1 (xw E z) H) (h2 : ∀ k, k < 144 → q ≠ E.2.2.1 k) (h3 : H[q]? = some (vp_cell (E.2.2.2.1 0) (n, .inl f))) : va_P E.1 E.2.1 (xw E z ++ [(q, .inl (E.2.2.2.1 0, n, .inl f))]) H ∧ va_D (tA E sz q) (xw E z ++ [(q, .inl (E.2.2.2.1 0, n, .inl f))]) := by
  have hD := xw_D E z sz hi
  have sp : ∀ (k : Nat) (x : Nat × va_E), (xw E z ++ [(q, .inl (E.2.2.2.1 0, n, .inl f))])[k]? = some x → (k < 144 ∧ (xw E z)[k]? = some x) ∨ (k = 144 ∧ x = (q, .inl (E.2.2.2.1 0, n, .inl f))) := by
    intro k x hk
    by_cases h : k < 144
    · left
      rw [List.getElem?_append_left (by rw [xw_len]; exact h)] at hk
      exact ⟨h, hk⟩
    · right
      rw [List.getElem?_append_right (by rw [xw_len]; omega), xw_len] at hk
      have h9 : k = 144 := by
        have := (List.getElem?_eq_some_iff.mp hk).1
        simp at this
        omega
      subst h9
      exact ⟨rfl, (Option.some.inj hk).symm⟩
  refine ⟨fun k x hk => ?_, fun i j p r hp hr e => ?_, fun k x hk => ?_⟩
  · rcases sp k x hk with ⟨_, g⟩ | ⟨_, g⟩
    · exact hP k x g
    · subst g; exact h3
  · rcases sp i p hp with ⟨a1, g1⟩ | ⟨a1, g1⟩ <;> rcases sp j r hr with ⟨a2, g2⟩ | ⟨a2, g2⟩
    · exact hD.1 i j p r g1 g2 e
    · subst g2
      obtain ⟨b1, b2⟩ := xw_at E z i p g1
      exact absurd (e.symm.trans b2) (h2 i b1)
    · subst g1
      obtain ⟨b1, b2⟩ := xw_at E z j r g2
      exact absurd (e.trans b2) (h2 j b1)
    · omega
  · rcases sp k x hk with ⟨_, g⟩ | ⟨_, g⟩
    · exact Or.inl (hD.2 k x g)
    · subst g; exact Or.inr rfl
def tPc (E : XE) (z : XS) (sz q n : Nat) (f : Nat → Int32) (vs : List Value) : Array Value → State → Prop := fun v U => xPc E z sz vs v U ∧ (∀ k, k < 144 → q ≠ E.2.2.1 k) ∧ U.heap[q]? = some (vp_cell (E.2.2.2.1 0) (n, .inl f))
def tQc (E : XE) (z : XS) (sz q : Nat) : Array Value → State → Outcome → State → Prop := fun _ st oc t => oc = .returned none ∧ va_P E.1 E.2.1 (xw E z) t.heap ∧ va_F (tA E sz q) st t
theorem wX1_copyT {l : Launch} {E : XE} {z z1 : XS} {k1 n q : Nat} {f : Nat → Int32} (h1 : xint k1 n) (hn : n < 2 ^ 31) (ez : z1 = xA z k1 (va_cpy f (z.2.1 k1) 0 0 n)) (hok : xOk E) (sz : Nat) : Met l yX1_copy (ws_ yX1_copy cX1_copy 2 none) rmX1_copy (tPc E z sz q n f [.ref q, .ref (E.2.2.1 k1)]) (tQc E z1 sz q) 0 0 (tA E sz q) := by
  refine Met.ofW (cc := cX1_copy) (maxL := 2) (ret := none) (by decide) rfl ?_
  intro p e s m args below meth c s₁ B hml hv
  obtain ⟨⟨rfl, hsz, hP, hK, hG⟩, hq, hqH⟩ := hv
  have hx := B.exec
  have hb := B.bytes
  have hr := B.returns
  have hts := atoms_spec (ws := ws_ yX1_copy cX1_copy 2 none) B.pre
  have hts : ∀ w ∈ lw_all, w.before _ s = true := fun w h => hts w (List.mem_cons_of_mem _ h)
  have hown : s.vm.findClass RX1 = some m.cls := findClass_of_methodNamed B.named
  have hlocks := B.notSynchronized
  subst hsz
  have hl := lv_entry [.ref q, .ref (E.2.2.1 k1)] (n := 2) (Nat.le_of_ble_eq_true rfl)
  rw [lg_entry_eq]
  generalize (lg_sl [.ref q, .ref (E.2.2.1 k1)] ++ List.replicate (2 - (lg_sl [.ref q, .ref (E.2.2.1 k1)]).length) Slot.unset).toArray = ls at hl ⊢
  have hl : lv_has ls 2 [(0, .ref q), (1, .ref (E.2.2.1 k1))] := hl
  have hcl : (Int32.ofNat n).toNatClampNeg = n := nI_clamp hn
  have hP1 : va_P E.1 E.2.1 [(q, .inl (E.2.2.2.1 0, n, .inl f))] s.heap := by
    intro k x hk
    match k, hk with
    | 0, hk => cases hk; exact hqH
    | k + 1, hk => cases hk
  obtain ⟨g1, g2⟩ := xt_joinA (sz := s.heap.size) hok.1 hP hq hqH
  refine lv_aload_n hx hb dX1_copy_0 rfl (lv_at hl 0 rfl) ?_
  refine lv_iconst (v := 0) hx hb dX1_copy_1 (by decide) ?_
  refine lv_aload_n hx hb dX1_copy_2 rfl (lv_at hl 1 rfl) ?_
  refine lv_iconst (v := 0) hx hb dX1_copy_3 (by decide) ?_
  refine lv_aload_n hx hb dX1_copy_4 rfl (lv_at hl 0 rfl) ?_
  refine va_alen hx hb hK hP1 0 0 (x := (n, .inl f)) rfl rfl (v := Int32.ofNat n) rfl dX1_copy_5 ?_
  refine va_copyi hx hb (by rw [hml, hl.1]) hown (hts _ q226) (hts _ q228) (hts _ q227) (hts _ q124) hK g1 g2 (H0 := s.heap) va_S.rf 144 k1 0 0 (xt_at E z _) (by rw [xt_get E z _ h1.1, xcont_int h1]) rfl rfl rfl (by decide) (by decide) (nI_pos hn) (by rw [hcl]; show 0 + n ≤ n; omega) (by rw [hcl]; show 0 + n ≤ n; omega) (fun _ _ => rfl) (Nat.le_of_ble_eq_true rfl) (by decide) dX1_copy_6 (fun H1 locs1 hP2 _ hS1 => ?_)
  rw [hcl] at hP2
  have e0 : (0 : Int32).toNatClampNeg = 0 := rfl
  rw [e0, xt_setX E z _ _ h1.1, xw_set E z (xA z k1 (va_cpy f (z.2.1 k1) 0 0 n)) h1.1 _ (by rw [xcont_int h1]; simp [xA, va_up]) (fun j hj => xcont_A E z k1 _ j hj)] at hP2
  have hP3 : va_P E.1 E.2.1 (xw E z1) H1 := by
    intro k x hk
    rw [ez] at hk
    exact hP2 k x (by rw [List.getElem?_append_left (List.getElem?_eq_some_iff.mp hk).1]; exact hk)
  exact W.vret hx hb hr (fun t ht hW => ⟨rfl, by rw [ht]; exact hP3, hS1.F ht⟩) hS1.2.2 dX1_copy_9
section TC
variable {p : Program} {l : Launch} {e : Env} {R : Room} {s : State} {m : MethodId} {args : Array Value} {below : List Frame} {meth : Method} {c : Code} {H : Heap} {locs : List Loc} {cells slots rc rs : Nat} {Q : State → Prop} {E : XE} {own : String} {cc : ByteArray} {nL : Nat} {rt : Option FieldType} {z : XS} {ls : Array Slot} {pc : Nat} {rest : List Value} {q n : Nat} {f : Nat → Int32}
theorem t_callcopy {z1 : XS} {k1 index : Nat} (hC : xC E own cc nL rt p s m args meth c) (hP : va_P E.1 E.2.1 (xw E z) H) (hS : va_S (xF E s.heap.size) s.heap H locs) (hB : cells + rc ≤ R.cells ∧ slots + rs ≤ R.slots) (hT : xTmp E s q n f H) (hls : ls.size = nL) (h1 : xint k1 n) (hn : n < 2 ^ 31) (ez : z1 = xA z k1 (va_cpy f (z.2.1 k1) 0 0 n))
    (cw : CallB R s args own index yX1_copy cX1_copy 2 none (ws_ yX1_copy cX1_copy 2 none) rmX1_copy 0 0 2 ∧ (Cond.static yX1_copy).before args s = true) (hroom : 2 * (F0 m pc ls (.ref (E.2.2.1 k1) :: .ref q :: rest)).monitorRoom + (rest.map fun v => v.category).sum ≤ 8) (hdg : decode cc pc = .ok (.invokestatic index, 3))
    (kk : ∀ (H1 : Heap) (locs1 : List Loc), va_P E.1 E.2.1 (xw E z1) H1 → va_S (xF E s.heap.size) s.heap H1 locs1 → W p l e R s m args below meth c H1 locs1 cells slots Q (F0 m (pc + 3) ls rest)) : W p l e R s m args below meth c H locs cells slots Q (F0 m pc ls (.ref (E.2.2.1 k1) :: .ref q :: rest)) := by
  obtain ⟨hx, hb, hr, hlocks, hml, hown, hts, hK, hok, hG⟩ := hC
  have hblind : FrameBlind (tPc E z H.size q n f [.ref q, .ref (E.2.2.1 k1)]) := fun a U g mk qq => ⟨xPc_blind E z H.size _ a U g mk qq.1, qq.2⟩
  have hr := va_runS (l := l) (e := e) (R := R) (below := below) (meth := meth) (locs := locs) (cells := cells) (slots := slots) (g := F0 m pc ls (.ref (E.2.2.1 k1) :: .ref q :: rest)) (Ts := lw_all) (As := [.ref q, .ref (E.2.2.1 k1)]) (rest := rest) ⟨hx, hb, hml, hown, hts⟩ (wX1_copyT h1 hn ez hok H.size) cw ⟨hblind, fun U hU hW => ⟨⟨rfl, by rw [hU], by rw [hU]; exact hP, va_K.moved hW.alike hK, xG_kept hok hG hS hW hU⟩, hT.2.1, by rw [hU]; exact hT.2.2⟩⟩ rfl rfl hls rfl hroom hdg ⟨by omega, by omega⟩
  intro T hT9 X
  obtain ⟨v, st₀, t, T', L, h0, X', hL, e1, e2, ⟨hv, hp, hz, hk⟩, sg⟩ := hr T hT9 X
  cases hv
  rw [h0] at hz hk
  have hm : ∀ x, tA E H.size q x → xF E s.heap.size x := fun x hx9 => by
    rcases hx9 with h | h
    · exact xF_mono hS.1 x h
    · subst h; exact Or.inr hT.1
  obtain ⟨t2, a1, b1⟩ := kk T'.heap (locs ++ L) (by rw [e1]; exact hp) ⟨Nat.le_trans hS.1 (by rw [e1]; exact hz), fun q h1 h2 => by rw [e1, hk q (Nat.lt_of_lt_of_le h1 hS.1) (fun w => h2 (hm q w))]; exact hS.2.1 q h1 h2, fun q hq => by
      rcases List.mem_append.mp hq with h | h
      · exact hS.2.2 q h
      · exact hm _ (hL q h)⟩ T' rfl X'
  exact ⟨t2, sg t2 a1, b1⟩
end TC
