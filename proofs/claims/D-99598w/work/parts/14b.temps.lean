/-! a temporary int array beside X's cells -/
set_option maxRecDepth 100000
def xTmp (E : XE) (s : State) (q n : Nat) (f : Nat → Int32) (H : Heap) : Prop := s.heap.size ≤ q ∧ (∀ k, k < 144 → q ≠ E.2.2.1 k) ∧ H[q]? = some (vp_cell (E.2.2.2.1 0) (n, .inl f))
theorem xw_len (E : XE) (z : XS) : (xw E z).length = 144 := by unfold xw; rw [List.length_map, List.length_range]
theorem xt_join {E : XE} {s : State} {z : XS} {q n : Nat} {f : Nat → Int32} {H : Heap} (hi : xInj E) (hP : va_P E.1 E.2.1 (xw E z) H) (hT : xTmp E s q n f H) : va_P E.1 E.2.1 (xw E z ++ [(q, .inl (E.2.2.2.1 0, n, .inl f))]) H ∧ va_D (xF E s.heap.size) (xw E z ++ [(q, .inl (E.2.2.2.1 0, n, .inl f))]) := by
  obtain ⟨h1, h2, h3⟩ := hT
  have hD := xw_D E z s.heap.size hi
  have sp : ∀ (k : Nat) (x : Nat × va_E), (xw E z ++ [(q, .inl (E.2.2.2.1 0, n, .inl f))])[k]? = some x → (k < 144 ∧ (xw E z)[k]? = some x) ∨ (k = 144 ∧ x = (q, .inl (E.2.2.2.1 0, n, .inl f))) := by
    intro k x hk
    by_cases h : k < 144
    · left
      rw [List.getElem?_append_left (by rw [xw_len]; exact h)] at hk
      exact ⟨h, hk⟩
    · right
      rw [List.getElem?_append_right (by rw [xw_len]; omega), xw_len] at hk
      have h9 : k = 144 := by
        have := (List.getElem?_eq_some_iff.mp hk).1
        simp at this
        omega
      subst h9
      exact ⟨rfl, (Option.some.inj hk).symm⟩
  refine ⟨fun k x hk => ?_, fun i j p r hp hr e => ?_, fun k x hk => ?_⟩
  · rcases sp k x hk with ⟨_, g⟩ | ⟨_, g⟩
    · exact hP k x g
    · subst g; exact h3
  · rcases sp i p hp with ⟨a1, g1⟩ | ⟨a1, g1⟩ <;> rcases sp j r hr with ⟨a2, g2⟩ | ⟨a2, g2⟩
    · exact hD.1 i j p r g1 g2 e
    · subst g2
      obtain ⟨b1, b2⟩ := xw_at E z i p g1
      exact absurd (e.symm.trans b2) (h2 i b1)
    · subst g1
      obtain ⟨b1, b2⟩ := xw_at E z j r g2
      exact absurd (e.trans b2) (h2 j b1)
    · omega
  · rcases sp k x hk with ⟨_, g⟩ | ⟨_, g⟩
    · exact hD.2 k x g
    · subst g; exact Or.inr h1
theorem xt_split {E : XE} {s : State} {z : XS} {q n : Nat} {f : Nat → Int32} {H : Heap} (h1 : s.heap.size ≤ q) (h2 : ∀ k, k < 144 → q ≠ E.2.2.1 k) (hP : va_P E.1 E.2.1 (xw E z ++ [(q, .inl (E.2.2.2.1 0, n, .inl f))]) H) : va_P E.1 E.2.1 (xw E z) H ∧ xTmp E s q n f H := by
  refine ⟨fun k x hk => hP k x ?_, h1, h2, ?_⟩
  · have hl := (List.getElem?_eq_some_iff.mp hk).1
    rw [List.getElem?_append_left hl]; exact hk
  · have := hP 144 (q, .inl (E.2.2.2.1 0, n, .inl f)) (by rw [List.getElem?_append_right (by rw [xw_len]; exact Nat.le_refl _), xw_len]; rfl)
    exact this
theorem xt_at (E : XE) (z : XS) (x : Nat × va_E) : (xw E z ++ [x])[144]? = some x := by rw [List.getElem?_append_right (by rw [xw_len]; exact Nat.le_refl _), xw_len]; rfl
theorem xt_get (E : XE) (z : XS) (x : Nat × va_E) {k : Nat} (h : k < 144) : (xw E z ++ [x])[k]? = some (E.2.2.1 k, xcont E z k) := by rw [List.getElem?_append_left (by rw [xw_len]; exact h)]; exact xw_get E z h
theorem xt_setT (E : XE) (z : XS) (x y : Nat × va_E) : (xw E z ++ [x]).set 144 y = xw E z ++ [y] := by
  rw [List.set_append_right _ _ (by rw [xw_len]; exact Nat.le_refl _), xw_len]; rfl
theorem xt_setX (E : XE) (z : XS) (x y : Nat × va_E) {k : Nat} (h : k < 144) : (xw E z ++ [x]).set k y = (xw E z).set k y ++ [x] := List.set_append_left _ _ (by rw [xw_len]; exact h)
section TB
variable {p : Program} {l : Launch} {e : Env} {R : Room} {s : State} {m : MethodId} {args : Array Value} {below : List Frame} {meth : Method} {c : Code} {H : Heap} {locs : List Loc} {cells slots rc rs : Nat} {Q : State → Prop} {E : XE} {own : String} {cc : ByteArray} {nL : Nat} {rt : Option FieldType} {z : XS} {ls : Array Slot} {pc : Nat} {rest : List Value} {q n : Nat} {f : Nat → Int32}
theorem t_new {v : Int32} (rc1 rs1 : Nat) (hC : xC E own cc nL rt p s m args meth c) (hP : va_P E.1 E.2.1 (xw E z) H) (hS : va_S (xF E s.heap.size) s.heap H locs) (hB : cells + rc ≤ R.cells ∧ slots + rs ≤ R.slots) (hv : ¬ v < 0) (hN : v.toNatClampNeg = n) (hbytes : n * 4 ≤ 536870912) (hrem : 1 + rc1 ≤ rc ∧ n + rs1 ≤ rs) (hdg : decode cc pc = .ok (.newarray .int, 2))
    (kk : ∀ (q : Nat) (H1 : Heap) (c1 n1 : Nat), va_P E.1 E.2.1 (xw E z) H1 → va_S (xF E s.heap.size) s.heap H1 locs → (c1 + rc1 ≤ R.cells ∧ n1 + rs1 ≤ R.slots) → xTmp E s q n (fun _ => 0) H1 → W p l e R s m args below meth c H1 locs c1 n1 Q (F0 m (pc + 2) ls (.ref q :: rest))) : W p l e R s m args below meth c H locs cells slots Q (F0 m pc ls (.int v :: rest)) := by
  obtain ⟨hx, hb, hr, hlocks, hml, hown, hts, hK, hok, hG⟩ := hC
  obtain ⟨hB1, hB2⟩ := hB
  obtain ⟨hr1, hr2⟩ := hrem
  refine va_newa (atype := .int) (ty := .int) (a0 := (n, .inl (fun _ => 0))) hx hb (hts _ q217) rfl hK hP (xw_D E z _ hok.1) hS (fun q h => Or.inr h) (fun cA => rfl) hv hN (by exact hbytes) (by omega) (by omega) hdg (fun q cA H1 hK1 hP1 hD1 hS1 => ?_)
  have hc : cA = E.2.2.2.1 0 := by
    have h1 := (hK1.2 6 (cA, .int) rfl).2
    have h2 := (hK1.2 0 (E.2.2.2.1 0, .int) rfl).2
    exact Option.some.inj (h1.symm.trans h2)
  subst hc
  have hne : ∀ k, k < 144 → q ≠ E.2.2.1 k := by
    intro k hk e9
    have := hD1.1 144 k _ _ (xt_at E z _) (xt_get E z _ hk) e9
    omega
  have hsz : s.heap.size ≤ q := by
    rcases hD1.2 144 _ (xt_at E z _) with ⟨k, hk, h9⟩ | h9
    · exact absurd h9 (hne k hk)
    · exact h9
  obtain ⟨g1, g2⟩ := xt_split (s := s) hsz hne hP1
  exact kk q H1 _ _ g1 hS1 ⟨by omega, by omega⟩ g2
theorem t_ald (hC : xC E own cc nL rt p s m args meth c) (hP : va_P E.1 E.2.1 (xw E z) H) (hT : xTmp E s q n f H) {i : Int32} (hin : ¬ ib i n) (hdg : decode cc pc = .ok (.iaload, 1))
    (kk : W p l e R s m args below meth c H locs cells slots Q (F0 m (pc + 1) ls (.int (f i.toNatClampNeg) :: rest))) : W p l e R s m args below meth c H locs cells slots Q (F0 m pc ls (.int i :: .ref q :: rest)) := by
  obtain ⟨hx, hb, hr, hlocks, hml, hown, hts, hK, hok, hG⟩ := hC
  exact va_iald hx hb hK (xt_join hok.1 hP hT).1 144 0 (xt_at E z _) rfl hin hdg kk
theorem t_ast {f1 : Nat → Int32} (hC : xC E own cc nL rt p s m args meth c) (hP : va_P E.1 E.2.1 (xw E z) H) (hS : va_S (xF E s.heap.size) s.heap H locs) (hT : xTmp E s q n f H) {i x : Int32} (hin : ¬ ib i n) (ef : f1 = upd f i.toNatClampNeg x) (hdg : decode cc pc = .ok (.iastore, 1))
    (kk : ∀ (H1 : Heap) (locs1 : List Loc), va_P E.1 E.2.1 (xw E z) H1 → va_S (xF E s.heap.size) s.heap H1 locs1 → xTmp E s q n f1 H1 → W p l e R s m args below meth c H1 locs1 cells slots Q (F0 m (pc + 1) ls rest)) : W p l e R s m args below meth c H locs cells slots Q (F0 m pc ls (.int x :: .int i :: .ref q :: rest)) := by
  subst ef
  obtain ⟨hx, hb, hr, hlocks, hml, hown, hts, hK, hok, hG⟩ := hC
  obtain ⟨g1, g2⟩ := xt_join hok.1 hP hT
  refine va_iast hx hb hK g1 g2 hS 144 0 (xt_at E z _) rfl hin hdg (fun H1 locs1 hP1 _ hS1 => ?_)
  rw [xt_setT] at hP1
  obtain ⟨g3, g4⟩ := xt_split (s := s) hT.1 hT.2.1 hP1
  exact kk H1 locs1 g3 hS1 g4
/-- a temporary array copied into one of X's -/
theorem t_copy {k1 n1 ix : Nat} {sp dp nn : Int32} {z1 : XS} (hC : xC E own cc nL rt p s m args meth c) (hP : va_P E.1 E.2.1 (xw E z) H) (hS : va_S (xF E s.heap.size) s.heap H locs) (hT : xTmp E s q n f H) (hls : ls.size = nL) (hk1 : xint k1 n1) (hlink : Cond.methodLink own ix arraycopyName ∈ lw_all) (h1 : ¬ sp < 0) (h2 : ¬ dp < 0) (h3 : ¬ nn < 0) (h4 : sp.toNatClampNeg + nn.toNatClampNeg ≤ n) (h5 : dp.toNatClampNeg + nn.toNatClampNeg ≤ n1) (ez : z1 = xA z k1 (va_cpy f (z.2.1 k1) sp.toNatClampNeg dp.toNatClampNeg nn.toNatClampNeg))
    (hframes : 1 ≤ R.frames) (hlocals : (rest.map fun v => v.category).sum + (nativeFrameWords "java/lang/System" "arraycopy" 5 + 11) ≤ R.locals) (hdg : decode cc pc = .ok (.invokestatic ix, 3))
    (kk : ∀ (H1 : Heap) (locs1 : List Loc), va_P E.1 E.2.1 (xw E z1) H1 → va_S (xF E s.heap.size) s.heap H1 locs1 → W p l e R s m args below meth c H1 locs1 cells slots Q (F0 m (pc + 3) ls rest)) : W p l e R s m args below meth c H locs cells slots Q (F0 m pc ls (.int nn :: .int dp :: .ref (E.2.2.1 k1) :: .int sp :: .ref q :: rest)) := by
  subst ez
  obtain ⟨hx, hb, hr, hlocks, hml, hown, hts, hK, hok, hG⟩ := hC
  obtain ⟨g1, g2⟩ := xt_join hok.1 hP hT
  refine va_copyi hx hb (by rw [hml, hls]) hown (hts _ hlink) (hts _ q228) (hts _ q227) (hts _ q124) hK g1 g2 hS 144 k1 0 0 (xt_at E z _) (by rw [xt_get E z _ hk1.1, xcont_int hk1]) rfl rfl rfl h1 h2 h3 h4 h5 (fun _ _ => rfl) hframes hlocals hdg (fun H1 locs1 hP1 _ hS1 => kk H1 locs1 ?_ hS1)
  rw [xt_setX E z _ _ hk1.1, xw_set E z (xA z k1 (va_cpy f (z.2.1 k1) sp.toNatClampNeg dp.toNatClampNeg nn.toNatClampNeg)) hk1.1 _ (by rw [xcont_int hk1]; simp [xA, va_up]) (fun j hj => xcont_A E z k1 _ j hj)] at hP1
  exact (xt_split (s := s) hT.1 hT.2.1 hP1).1
/-- a call that leaves a temporary array as it is -/
theorem t_callV {y : MethodName} {bytes : ByteArray} {maxL n' index : Nat} {ret : Option FieldType} {rm : Room} {o : Option Value} {zr : XS} {st : List Value} {C : String} {T : u_T} {N q0 ci : Nat} {fs : List Value} (rc1 rs1 : Nat) (As : List Value) (b : Nat) (hC : xC E own cc nL rt p s m args meth c) (hP : va_P E.1 E.2.1 (xw E z) H) (hS : va_S (xF E s.heap.size) s.heap H locs) (hB : cells + rc ≤ R.cells ∧ slots + rs ≤ R.slots) (hT : xTmp E s q n f H) (hls : ls.size = nL) (hM : xM l y (ws_ y bytes maxL ret) rm E z (.ref b :: As) o zr)
    (hci : E.2.1[ci]? = some (C, T, N)) (hq0 : (xw E z)[q0]? = some (b, .inr (ci, fs)))
    (cw : CallW R s args own C index y bytes maxL ret (ws_ y bytes maxL ret) rm rm.cells rm.slots n') (hst : st = As.reverse ++ .ref b :: rest) (hn : As.length = n') (hroom : 2 * (F0 m pc ls st).monitorRoom + (rest.map fun v => v.category).sum ≤ 8) (hrem : rm.cells + rc1 ≤ rc ∧ rm.slots + rs1 ≤ rs) (hdg : decode cc pc = .ok (.invokevirtual index, 3))
    (kk : ∀ (H1 : Heap) (locs1 : List Loc) (c1 n1 : Nat), va_P E.1 E.2.1 (xw E zr) H1 → va_S (xF E s.heap.size) s.heap H1 locs1 → (c1 + rc1 ≤ R.cells ∧ n1 + rs1 ≤ R.slots) → xTmp E s q n f H1 → W p l e R s m args below meth c H1 locs1 c1 n1 Q (F0 m (pc + 3) ls (o.toList ++ rest))) : W p l e R s m args below meth c H locs cells slots Q (F0 m pc ls st) := by
  obtain ⟨hx, hb, hr, hlocks, hml, hown, hts, hK, hok, hG⟩ := hC
  obtain ⟨hB1, hB2⟩ := hB
  obtain ⟨hr1, hr2⟩ := hrem
  have hr := va_runV (l := l) (e := e) (R := R) (below := below) (meth := meth) (locs := locs) (cells := cells) (slots := slots) (g := F0 m pc ls st) (Ts := lw_all) (rest := rest) ⟨hx, hb, hml, hown, hts⟩ (hM hok H.size) cw ⟨xPc_blind E z H.size _, va_recv hK hP (ci := ci) (q0 := q0) hci hq0, fun U hU hW => ⟨rfl, by rw [hU], by rw [hU]; exact hP, va_K.moved hW.alike hK, xG_kept hok hG hS hW hU⟩⟩ rfl hn hls hst hroom hdg ⟨by omega, by omega⟩
  intro T hT9 X
  obtain ⟨v, st₀, t, T', L, h0, X', hL, e1, e2, ⟨hv, hp, hz, hk⟩, sg⟩ := hr T hT9 X
  cases hv
  rw [h0] at hz hk
  have hm : ∀ q, xF E H.size q → xF E s.heap.size q := xF_mono hS.1
  have hq1 : q < H.size := (Array.getElem?_eq_some_iff.mp hT.2.2).1
  have hq2 : ¬ xF E H.size q := by
    intro w
    rcases w with ⟨k, w1, w2⟩ | w
    · exact hT.2.1 k w1 w2
    · omega
  have hq3 : T'.heap[q]? = some (vp_cell (E.2.2.2.1 0) (n, .inl f)) := by rw [e1, hk q hq1 hq2]; exact hT.2.2
  have hB3 : (cells + rm.cells) + rc1 ≤ R.cells ∧ (slots + rm.slots) + rs1 ≤ R.slots := ⟨by omega, by omega⟩
  obtain ⟨t2, a1, b1⟩ := kk T'.heap (locs ++ L) _ _ (by rw [e1]; exact hp) ⟨Nat.le_trans hS.1 (by rw [e1]; exact hz), fun q h1 h2 => by rw [e1, hk q (Nat.lt_of_lt_of_le h1 hS.1) (fun w => h2 (hm q w))]; exact hS.2.1 q h1 h2, fun q hq => by
      rcases List.mem_append.mp hq with h | h
      · exact hS.2.2 q h
      · exact hm _ (hL q h)⟩ hB3 ⟨hT.1, hT.2.1, hq3⟩ T' rfl X'
  exact ⟨t2, sg t2 a1, b1⟩
end TB
