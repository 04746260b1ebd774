/-! methods that return or throw a Wrong -/
set_option maxRecDepth 100000
/-- the Wrong at q says: fault x at y -/
def WrAt (E : XE) (q : Nat) (x y : Int32) (H : Heap) : Prop := ∃ w0 w1 w2 w3 w4 w5, va_at E.1 E.2.1 (q, .inr (4, [w0, w1, w2, w3, w4, w5, .int x, .int y])) H
def kX (A : Nat → Prop) (sz : Nat) (Xo : Nat → Heap → Prop) : String → Addr → State → State → Prop := fun E9 q st t => E9 = RX5 ∧ Xo q t.heap ∧ va_F (bW A sz) st t
/-- the contract: it returns with Po, or throws a Wrong at q with Xo -/
def tM (l : Launch) (E : XE) (A : Nat → Prop) (y : MethodName) (ws : List Cond) (rm : Room) (vs : List Value) (Cd : Heap → Prop) (Po : Nat → Option Value → Heap → Prop) (Xo : Nat → Nat → Heap → Prop) : Prop := xCl E → (∀ q, A q → ¬ E.2.2.2.2.1 q) → ∀ sz, vx_Met l y ws rm (bPc E sz vs Cd) (bQc A sz (Po sz)) (kX A sz (Xo sz)) rm.cells rm.slots (bW A sz)
def tQ (A : Nat → Prop) (R : Room) (below : List Frame) (args : Array Value) (s : State) (Po : Option Value → Heap → Prop) (Xo : Nat → Heap → Prop) : State → Prop := vx_MQ below (bQc A s.heap.size Po) (kX A s.heap.size Xo) args s R.cells R.slots (bW A s.heap.size)
theorem t_met {l : Launch} {E : XE} {A : Nat → Prop} {y : MethodName} {mn own : String} {cc : ByteArray} {maxL : Nat} {ret : Option FieldType} {rm : Room} {vs : List Value} {Cd : Heap → Prop} {Po : Nat → Option Value → Heap → Prop} {Xo : Nat → Nat → Heap → Prop} (hy : plainName y.cls = true) (hc : y.cls = own) (hn : y.name = mn) (hlen : (lg_sl vs).length ≤ maxL)
    (body : ∀ (p : Program) (e : Env) (s : State) (m : MethodId) (args : Array Value) (below : List Frame) (meth : Method) (c : Code), bC E A mn own cc maxL ret p s m args meth c → (∀ x ∈ c.exceptionTable.toList, False) → Cd s.heap → ∀ ls : Array Slot, lv_has ls maxL (lv_args 0 vs) → va_S (bW A s.heap.size) s.heap s.heap [] → W p l e rm s m args below meth c s.heap [] 0 0 (tQ A rm below args s (Po s.heap.size) (Xo s.heap.size)) (F0 m 0 ls [])) : tM l E A y (ws_ y cc maxL ret) rm vs Cd Po Xo := by
  intro hE hA sz
  refine vx_ofW (cc := cc) (maxL := maxL) (ret := ret) hy rfl ?_
  intro p e s m args below meth c s₁ B hml hno hv
  obtain ⟨rfl, hsz, hK, hG, hCd⟩ := hv
  have hts := atoms_spec (ws := ws_ y cc maxL ret) B.pre
  have hts : ∀ w ∈ lw_all, w.before _ s = true := fun w h => hts w (List.mem_cons_of_mem _ h)
  have hown : s.vm.findClass own = some m.cls := by rw [← hc]; exact findClass_of_methodNamed B.named
  have hin : meth.name = mn := by rw [← hn]; exact (name_of_methodNamed B.named B.method).1
  subst hsz
  have hl := lv_entry vs (n := maxL) hlen
  rw [lg_entry_eq]
  exact body p e s m _ below meth c ⟨⟨⟨B.exec, B.bytes, B.returns, B.notSynchronized, hml, hown, hts⟩, hK, hE, hG.2.1⟩, hG, hA, hin⟩ hno hCd _ hl va_S.rf
section TX
variable {p : Program} {l : Launch} {e : Env} {R : Room} {s : State} {m : MethodId} {args : Array Value} {below : List Frame} {meth : Method} {c : Code} {H : Heap} {locs : List Loc} {cells slots : Nat} {Q : State → Prop} {E : XE} {A : Nat → Prop} {mn own : String} {cc : ByteArray} {nL : Nat} {rt : Option FieldType} {ls : Array Slot} {pc : Nat} {rest : List Value} {Po : Option Value → Heap → Prop} {Xo : Nat → Heap → Prop}
/-- a Wrong leaves the method -/
theorem t_out {q : Nat} {ce : Cell} (hC : bC E A mn own cc nL rt p s m args meth c) (hno : ∀ x ∈ c.exceptionTable.toList, False) (hS : va_S (bW A s.heap.size) s.heap H locs) (h1 : H[q]? = some ce) (h2 : ce.vm = .none) (h3 : s.vm.findClass RX5 = some ce.cls) (hXo : Xo q H) (hfit : cells ≤ R.cells ∧ slots ≤ R.slots) : vx_W p l e R s m args below meth c H locs cells slots (tQ A R below args s Po Xo) (F0 m pc ls rest) q :=
  vx_out (E := RX5) (ce := ce) (fun x hx => (hno x hx).elim) hC.1.1.2.2.2.1 h1 h2 h3 (fun t ht hW => ⟨rfl, by rw [ht]; exact hXo, hS.F ht⟩) hS.2.2 hfit.1 hfit.2
/-- athrow of a Wrong -/
theorem t_throw {q : Nat} {fs : List Value} (hC : bC E A mn own cc nL rt p s m args meth c) (hno : ∀ x ∈ c.exceptionTable.toList, False) (hS : va_S (bW A s.heap.size) s.heap H locs) (hA : va_at E.1 E.2.1 (q, .inr (4, fs)) H) (hXo : Xo q H) (hfit : cells ≤ R.cells ∧ slots ≤ R.slots) (hdg : decode cc pc = .ok (.athrow, 1)) : W p l e R s m args below meth c H locs cells slots (tQ A R below args s Po Xo) (F0 m pc ls (.ref q :: rest)) := by
  obtain ⟨r, h1, cell, q1, q2, q3, q4⟩ := hA
  exact vx_athrow hC.1.1.1 hC.1.1.2.1 hdg (t_out hC hno hS q1 q3 (by rw [q2]; exact (hC.1.2.1.1 4 _ (hC.1.2.2.1 4 _ rfl)).2.1) hXo hfit)
/-- a call that may throw -/
theorem t_callV {y : MethodName} {bytes : ByteArray} {maxL n index : Nat} {ret : Option FieldType} {rm : Room} {st : List Value} {C : String} {A1 : Nat → Prop} {Cd : Heap → Prop} {Po1 : Nat → Option Value → Heap → Prop} {Xo1 : Nat → Nat → Heap → Prop} (As : List Value) (b : Nat) (hC : bC E A mn own cc nL rt p s m args meth c) (hno : ∀ x ∈ c.exceptionTable.toList, False) (hS : va_S (bW A s.heap.size) s.heap H locs) (hls : ls.size = nL) (hM : tM l E A1 y (ws_ y bytes maxL ret) rm (.ref b :: As) Cd Po1 Xo1) (hA1 : ∀ q, A1 q → ¬ E.2.2.2.2.1 q) (hCd : Cd H) (hrv : ∃ cell : Cell, H[b]? = some cell ∧ cell.vm.isStatics = false ∧ s.vm.findClass C = some cell.cls)
    (cw : CallW R s args own C index y bytes maxL ret (ws_ y bytes maxL ret) rm rm.cells rm.slots n) (hst : st = As.reverse ++ .ref b :: rest) (hn : As.length = n) (hroom : 2 * (F0 m pc ls st).monitorRoom + (rest.map fun v => v.category).sum ≤ 8) (hfit : cells + rm.cells ≤ R.cells ∧ slots + rm.slots ≤ R.slots) (hA : ∀ q, A1 q → bW A s.heap.size q) (hdg : decode cc pc = .ok (.invokevirtual index, 3))
    (kx : ∀ (q : Nat) (H1 : Heap), Xo1 H.size q H1 → Xo q H1)
    (kk : ∀ (o : Option Value) (H1 : Heap) (locs1 : List Loc), Po1 H.size o H1 → H.size ≤ H1.size → (∀ q, q < H.size → ¬ A1 q → H1[q]? = H[q]?) → va_S (bW A s.heap.size) s.heap H1 locs1 → W p l e R s m args below meth c H1 locs1 (cells + rm.cells) (slots + rm.slots) (tQ A R below args s Po Xo) (F0 m (pc + 3) ls (o.toList ++ rest))) : W p l e R s m args below meth c H locs cells slots (tQ A R below args s Po Xo) (F0 m pc ls st) := by
  have hC0 := hC
  obtain ⟨⟨⟨hx, hb, hr, hlocks, hml, hown, hts⟩, hK, hE, -⟩, hG, -⟩ := hC
  have hr := vx_runV (l := l) (e := e) (R := R) (below := below) (meth := meth) (locs := locs) (cells := cells) (slots := slots) (g := F0 m pc ls st) (Ts := lw_all) (rest := rest) ⟨hx, hb, hml, hown, hts⟩ (hM hE hA1 H.size) cw ⟨bPc_blind E H.size _ Cd, hrv, fun U hU hW => ⟨rfl, by rw [hU], va_K.moved hW.alike hK, hG.k (b_fr hC0 hS hU hW), by rw [hU]; exact hCd⟩⟩ rfl hn hls hst hroom hdg hfit
  have hm : ∀ q, bW A1 H.size q → bW A s.heap.size q := fun q h => by
    rcases h with h | h
    · exact hA q h
    · exact Or.inr (Nat.le_trans hS.1 h)
  have fr : ∀ {st₀ t T' : State} {L : List Loc}, st₀.heap = H → T'.heap = t.heap → va_F (bW A1 H.size) st₀ t → (∀ q ∈ L, bW A1 H.size q.base) → va_S (bW A s.heap.size) s.heap T'.heap (locs ++ L) := by
    intro st₀ t T' L h0 e1 hF hL
    obtain ⟨hz, hk⟩ := hF
    rw [h0] at hz hk
    exact ⟨Nat.le_trans hS.1 (by rw [e1]; exact hz), fun q h1 h2 => by rw [e1, hk q (Nat.lt_of_lt_of_le h1 hS.1) (fun w => h2 (hm q w))]; exact hS.2.1 q h1 h2, fun q hq => by
      rcases List.mem_append.mp hq with h | h
      · exact hS.2.2 q h
      · exact hm _ (hL q h)⟩
  intro T hT X
  rcases hr T hT X with ⟨v, st₀, t, T', L, h0, X', hL, e1, e2, ⟨⟨o, hv, hp⟩, hF⟩, sg⟩ | ⟨q, st₀, t, T', L, E9, ce, h0, X', hL, e1, e2, ⟨hE9, hXo, hF⟩, hce, hcv, hcl, sg⟩
  · cases hv
    have hz := hF.1
    have hk := hF.2
    rw [h0] at hz hk
    obtain ⟨t2, a1, b1⟩ := kk v T'.heap (locs ++ L) (by rw [e1]; exact hp) (by rw [e1]; exact hz) (fun q h1 h2 => by
        rw [e1]
        exact hk q h1 (fun h => by rcases h with h | h; exact h2 h; omega)) (fr h0 e1 hF hL) T' rfl X'
    exact ⟨t2, sg t2 a1, b1⟩
  · subst hE9
    obtain ⟨t2, a1, b1⟩ := t_out (pc := pc) (ls := ls) (rest := rest) (Po := Po) hC0 hno (fr h0 e1 hF hL) (by rw [e1]; exact hce) hcv hcl (kx q T'.heap (by rw [e1]; exact hXo)) hfit T' rfl X'
    exact ⟨t2, sg.trans a1, b1⟩
end TX
