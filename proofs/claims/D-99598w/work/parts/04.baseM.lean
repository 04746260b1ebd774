/-! THE PURE WORDS of decompiled methods, and the world of RailingsCountModel (M) -/
set_option maxRecDepth 100000
/-- an index out of bounds -/
abbrev ib (i : Int32) (n : Nat) : Prop := i < 0 ∨ n ≤ i.toNatClampNeg
/-- a loop: its body goes on with new locals, or leaves -/
def lpo {α β : Type} (B : α → Option (α ⊕ β)) : Nat → α → Option β
  | 0, _ => none
  | n + 1, a => (B a).bind fun z => match z with
    | .inl a' => lpo B n a'
    | .inr b => some b
theorem lpo_walk {α β : Type} {B : α → Option (α ⊕ β)} (Wh : α → Prop) (Wx : β → Prop) (hs : ∀ a y, B a = some y → (∀ a', y = .inl a' → Wh a') → (∀ b, y = .inr b → Wx b) → Wh a) : ∀ (n : Nat) (a : α) (x : β), lpo B n a = some x → Wx x → Wh a := by
  intro n
  induction n with
  | zero => intro a x h; cases h
  | succ n ih =>
    intro a x h hx
    rw [lpo] at h
    cases hB : B a with
    | none => rw [hB] at h; cases h
    | some y =>
      rw [hB] at h
      refine hs a y hB (fun a' e => ?_) (fun b e => ?_)
      · subst e; exact ih a' x h hx
      · subst e; cases h; exact hx
theorem ob {α β : Type} {o : Option α} {f : α → Option β} {y : β} (h : o.bind f = some y) : ∃ a, o = some a ∧ f a = some y := Option.bind_eq_some_iff.mp h
theorem og {c : Prop} [Decidable c] {α : Type} {o : Option α} {y : α} (h : (if c then none else o) = some y) : ¬ c ∧ o = some y := by
  by_cases hc : c
  · rw [if_pos hc] at h; cases h
  · rw [if_neg hc] at h; exact ⟨hc, h⟩
theorem ip {c : Prop} [Decidable c] {α : Type} {a b y : α} (hc : c) (h : (if c then a else b) = y) : a = y := by rw [if_pos hc] at h; exact h
theorem iq {c : Prop} [Decidable c] {α : Type} {a b y : α} (hc : ¬ c) (h : (if c then a else b) = y) : b = y := by rw [if_neg hc] at h; exact h
/-- M's state: ints (by the field's number), longs, int and boolean arrays, long arrays -/
abbrev MS : Type := (Nat → Int32) × (Nat → Int64) × (Nat → Nat → Int32) × (Nat → Nat → Int64)
def mI (z : MS) (k : Nat) (v : Int32) : MS := (va_up z.1 k v, z.2)
def mJ (z : MS) (k : Nat) (v : Int64) : MS := (z.1, va_up z.2.1 k v, z.2.2)
def mA (z : MS) (k : Nat) (f : Nat → Int32) : MS := (z.1, z.2.1, va_up z.2.2.1 k f, z.2.2.2)
def mL (z : MS) (k : Nat) (f : Nat → Int64) : MS := (z.1, z.2.1, z.2.2.1, va_up z.2.2.2 k f)
/-- where M lies: the classes' numbers, the classes, M's place among them, its cells' addresses, the array classes -/
abbrev ME : Type := va_G × List vw_C × Nat × (Nat → Nat) × (Nat → ClassId)
def mfs (ad : Nat → Nat) (z : MS) : List Value := [.ref (ad 1), .ref (ad 2), .ref (ad 3), .ref (ad 4), .int (z.1 4), .int (z.1 5), .int (z.1 6), .int (z.1 7), .int (z.1 8), .int (z.1 9), .int (z.1 10), .long (z.2.1 11), .int (z.1 12), .int (z.1 13), .int (z.1 14), .ref (ad 5), .int (z.1 16), .int (z.1 17), .int (z.1 18), .int (z.1 19), .ref (ad 6), .ref (ad 7), .ref (ad 8), .int (z.1 23), .int (z.1 24), .ref (ad 9), .ref (ad 10), .int (z.1 27), .ref (ad 11), .ref (ad 12), .ref (ad 13), .ref (ad 14)]
def mw (E : ME) (z : MS) : va_W := [(E.2.2.2.1 0, .inr (E.2.2.1, mfs E.2.2.2.1 z)), (E.2.2.2.1 1, .inl (E.2.2.2.2 0, 3205, .inl (z.2.2.1 0))), (E.2.2.2.1 2, .inl (E.2.2.2.2 0, 3205, .inl (z.2.2.1 1))), (E.2.2.2.1 3, .inl (E.2.2.2.2 0, 2724, .inl (z.2.2.1 2))), (E.2.2.2.1 4, .inl (E.2.2.2.2 0, 300, .inl (z.2.2.1 3))), (E.2.2.2.1 5, .inl (E.2.2.2.2 0, 160, .inl (z.2.2.1 15))), (E.2.2.2.1 6, .inl (E.2.2.2.2 0, 8, .inl (z.2.2.1 20))), (E.2.2.2.1 7, .inl (E.2.2.2.2 1, 330, .inr (.inl (z.2.2.2 21)))), (E.2.2.2.1 8, .inl (E.2.2.2.2 2, 330, .inl (z.2.2.1 22))), (E.2.2.2.1 9, .inl (E.2.2.2.2 0, 76, .inl (z.2.2.1 25))), (E.2.2.2.1 10, .inl (E.2.2.2.2 0, 60, .inl (z.2.2.1 26))), (E.2.2.2.1 11, .inl (E.2.2.2.2 1, 13, .inr (.inl (z.2.2.2 28)))), (E.2.2.2.1 12, .inl (E.2.2.2.2 2, 4096, .inl (z.2.2.1 29))), (E.2.2.2.1 13, .inl (E.2.2.2.2 0, 13, .inl (z.2.2.1 30))), (E.2.2.2.1 14, .inl (E.2.2.2.2 0, 900, .inl (z.2.2.1 31)))]
def mtys (E : ME) : List (ClassId × FieldType) := [(E.2.2.2.2 0, .int), (E.2.2.2.2 1, .long), (E.2.2.2.2 2, .boolean)]
/-- M's cells, and all that come from sz on -/
def mF (E : ME) (sz : Nat) : Nat → Prop := fun q => (∃ k, k < 15 ∧ q = E.2.2.2.1 k) ∨ sz ≤ q
def mInj (E : ME) : Prop := ∀ i j, i < 15 → j < 15 → E.2.2.2.1 i = E.2.2.2.1 j → i = j
theorem mw_at (E : ME) (z : MS) (k : Nat) (q : Nat × va_E) (h : (mw E z)[k]? = some q) : k < 15 ∧ q.1 = E.2.2.2.1 k := by
  have hk : k < 15 := (List.getElem?_eq_some_iff.mp h).1
  refine ⟨hk, ?_⟩
  match k, hk, h with
  | 0, _, h => cases h; rfl
  | 1, _, h => cases h; rfl
  | 2, _, h => cases h; rfl
  | 3, _, h => cases h; rfl
  | 4, _, h => cases h; rfl
  | 5, _, h => cases h; rfl
  | 6, _, h => cases h; rfl
  | 7, _, h => cases h; rfl
  | 8, _, h => cases h; rfl
  | 9, _, h => cases h; rfl
  | 10, _, h => cases h; rfl
  | 11, _, h => cases h; rfl
  | 12, _, h => cases h; rfl
  | 13, _, h => cases h; rfl
  | 14, _, h => cases h; rfl
  | n + 15, hk, _ => omega
theorem mw_D (E : ME) (z : MS) (sz : Nat) (hi : mInj E) : va_D (mF E sz) (mw E z) := by
  refine ⟨fun i j p q hp hq e => ?_, fun k q hq => ?_⟩
  · obtain ⟨h1, h2⟩ := mw_at E z i p hp
    obtain ⟨h3, h4⟩ := mw_at E z j q hq
    exact hi i j h1 h3 (by rw [← h2, ← h4, e])
  · obtain ⟨h1, h2⟩ := mw_at E z k q hq
    exact Or.inl ⟨k, h1, h2⟩
theorem mF_mono {E : ME} {a b : Nat} (h : a ≤ b) : ∀ q, mF E b q → mF E a q := by
  intro q hq
  rcases hq with hq | hq
  · exact Or.inl hq
  · exact Or.inr (Nat.le_trans h hq)
/-- a method's start, its end -/
def mPc (E : ME) (z : MS) (sz : Nat) (vs : List Value) : Array Value → State → Prop := fun v U => v = (Value.ref (E.2.2.2.1 0) :: vs).toArray ∧ U.heap.size = sz ∧ va_P E.1 E.2.1 (mw E z) U.heap ∧ va_K E.1 E.2.1 (mtys E) U
def mQc (E : ME) (o : Option Value) (z : MS) (sz : Nat) : Array Value → State → Outcome → State → Prop := fun _ st oc t => oc = .returned o ∧ va_P E.1 E.2.1 (mw E z) t.heap ∧ va_F (mF E sz) st t
/-- M's contract: from the state z with vs it answers o, and leaves zr -/
def mM (l : Launch) (y : MethodName) (ws : List Cond) (rm : Room) (E : ME) (z : MS) (vs : List Value) (o : Option Value) (zr : MS) : Prop := mInj E → E.2.1[E.2.2.1]? = some (RX2, TX2, 32) → ∀ sz, Met l y ws rm (mPc E z sz vs) (mQc E o zr sz) 0 0 (mF E sz)
/-- a static method's contract: it answers o, nothing is changed -/
def sM (l : Launch) (y : MethodName) (ws : List Cond) (rm : Room) (vs : List Value) (o : Option Value) : Prop := Met l y ws rm (fun v _ => v = vs.toArray) (fun _ st oc t => oc = .returned o ∧ t.heap = st.heap) 0 0 (fun _ => False)
theorem mPc_blind (E : ME) (z : MS) (sz : Nat) (vs : List Value) : FrameBlind (mPc E z sz vs) := fun a U g mk q => by
  obtain ⟨q0, q1, qP, qK⟩ := q
  exact ⟨q0, q1, qP, va_K.moved (u := U) (U := U.calling g mk a) (Vm.Alike.refl U.vm) qK⟩
def mC (E : ME) (cc : ByteArray) (nL : Nat) (rt : Option FieldType) (p : Program) (s : State) (m : MethodId) (args : Array Value) (meth : Method) (c : Code) : Prop :=
  p.tables.exec = Jvm.exec ∧ c.code = cc ∧ meth.sig.returnType = rt ∧ meth.locks = false ∧ c.maxLocals = nL ∧ s.vm.findClass RX2 = some m.cls ∧ (∀ w ∈ lw_all, w.before args s = true) ∧ va_K E.1 E.2.1 (mtys E) s ∧ E.2.1[E.2.2.1]? = some (RX2, TX2, 32) ∧ mInj E
def mQ (E : ME) (below : List Frame) (args : Array Value) (s : State) (o : Option Value) (zr : MS) : State → Prop := MQ below (mQc E o zr s.heap.size) args s 0 0 (mF E s.heap.size)
/-- the machine at pc, with locals lv, stack st, M's state z -/
def mW (p : Program) (l : Launch) (e : Env) (R : Room) (s : State) (m : MethodId) (args : Array Value) (below : List Frame) (meth : Method) (c : Code) (E : ME) (nL : Nat) (Q : State → Prop) (pc : Nat) (lv : List (Nat × Value)) (st : List Value) (z : MS) : Prop :=
  ∀ (H : Heap) (locs : List Loc) (ls : Array Slot), va_P E.1 E.2.1 (mw E z) H → va_S (mF E s.heap.size) s.heap H locs → lv_has ls nL lv → W p l e R s m args below meth c H locs 0 0 Q (F0 m pc ls st)
theorem m_met {l : Launch} {y : MethodName} {cc : ByteArray} {maxL : Nat} {ret : Option FieldType} {rm : Room} {E : ME} {z zr : MS} {vs : List Value} {o : Option Value} (hy : plainName y.cls = true) (hc : y.cls = RX2) (hlen : (lg_sl (.ref (E.2.2.2.1 0) :: vs)).length ≤ maxL)
    (body : ∀ (p : Program) (e : Env) (s : State) (m : MethodId) (args : Array Value) (below : List Frame) (meth : Method) (c : Code), mC E cc maxL ret p s m args meth c → mW p l e rm s m args below meth c E maxL (mQ E below args s o zr) 0 (lv_args 0 (.ref (E.2.2.2.1 0) :: vs)) [] z) : mM l y (ws_ y cc maxL ret) rm E z vs o zr := by
  intro hinj hci sz
  refine Met.ofW (cc := cc) (maxL := maxL) (ret := ret) hy rfl ?_
  intro p e s m args below meth c s₁ B hml hv
  obtain ⟨rfl, hsz, hP, hK⟩ := hv
  have hx := B.exec
  have hb := B.bytes
  have hr := B.returns
  have hts := atoms_spec (ws := ws_ y cc maxL ret) B.pre
  have hts : ∀ w ∈ lw_all, w.before _ s = true := fun w h => hts w (List.mem_cons_of_mem _ h)
  have hown : s.vm.findClass RX2 = some m.cls := by rw [← hc]; exact findClass_of_methodNamed B.named
  have hlocks := B.notSynchronized
  subst hsz
  have hl := lv_entry (.ref (E.2.2.2.1 0) :: vs) (n := maxL) hlen
  rw [lg_entry_eq]
  exact body p e s m _ below meth c ⟨hx, hb, hr, hlocks, hml, hown, hts, hK, hci, hinj⟩ s.heap [] _ hP va_S.rf hl
section MB
variable {p : Program} {l : Launch} {e : Env} {R : Room} {s : State} {m : MethodId} {args : Array Value} {below : List Frame} {meth : Method} {c : Code} {H : Heap} {locs : List Loc} {Q : State → Prop} {E : ME} {cc : ByteArray} {nL : Nat} {rt : Option FieldType} {z : MS} {ls : Array Slot} {pc : Nat} {rest : List Value}
theorem m_call {y : MethodName} {bytes : ByteArray} {maxL n index : Nat} {ret : Option FieldType} {rm : Room} {o : Option Value} {zr : MS} {st : List Value} (As : List Value) (hC : mC E cc nL rt p s m args meth c) (hP : va_P E.1 E.2.1 (mw E z) H) (hS : va_S (mF E s.heap.size) s.heap H locs) (hls : ls.size = nL) (hM : mM l y (ws_ y bytes maxL ret) rm E z As o zr)
    (cw : CallW R s args RX2 RX2 index y bytes maxL ret (ws_ y bytes maxL ret) rm 0 0 n) (hst : st = As.reverse ++ .ref (E.2.2.2.1 0) :: rest) (hn : As.length = n) (hroom : 2 * (F0 m pc ls st).monitorRoom + (rest.map fun v => v.category).sum ≤ 8) (hdg : decode cc pc = .ok (.invokevirtual index, 3))
    (kk : ∀ (H1 : Heap) (locs1 : List Loc), va_P E.1 E.2.1 (mw E zr) H1 → va_S (mF E s.heap.size) s.heap H1 locs1 → W p l e R s m args below meth c H1 locs1 0 0 Q (F0 m (pc + 3) ls (o.toList ++ rest))) : W p l e R s m args below meth c H locs 0 0 Q (F0 m pc ls st) := by
  obtain ⟨hx, hb, hr, hlocks, hml, hown, hts, hK, hci, hinj⟩ := hC
  have hr := va_runV (l := l) (e := e) (R := R) (below := below) (meth := meth) (locs := locs) (cells := 0) (slots := 0) (g := F0 m pc ls st) (Ts := lw_all) (rest := rest) ⟨hx, hb, hml, hown, hts⟩ (hM hinj hci H.size) cw ⟨mPc_blind E z H.size As, va_recv hK hP (ci := E.2.2.1) (q0 := 0) hci rfl, fun U hU hW => ⟨rfl, by rw [hU], by rw [hU]; exact hP, va_K.moved hW.alike hK⟩⟩ rfl hn hls hst hroom hdg ⟨Nat.zero_le _, Nat.zero_le _⟩
  intro T hT X
  obtain ⟨v, st₀, t, T', L, h0, X', hL, e1, e2, ⟨hv, hp, hz, hk⟩, sg⟩ := hr T hT X
  cases hv
  rw [h0] at hz hk
  have hm : ∀ q, mF E H.size q → mF E s.heap.size q := mF_mono hS.1
  obtain ⟨t2, a1, b1⟩ := kk T'.heap (locs ++ L) (by rw [e1]; exact hp) ⟨Nat.le_trans hS.1 (by rw [e1]; exact hz), fun q h1 h2 => by rw [e1, hk q (Nat.lt_of_lt_of_le h1 hS.1) (fun w => h2 (hm q w))]; exact hS.2.1 q h1 h2, fun q hq => by
      rcases List.mem_append.mp hq with h | h
      · exact hS.2.2 q h
      · exact hm _ (hL q h)⟩ T' rfl X'
  exact ⟨t2, sg t2 a1, b1⟩
theorem m_calli {y : MethodName} {bytes : ByteArray} {maxL n index : Nat} {ret : Option FieldType} {rm : Room} {v : Int32} {zr : MS} {st : List Value} (As : List Value) (hC : mC E cc nL rt p s m args meth c) (hP : va_P E.1 E.2.1 (mw E z) H) (hS : va_S (mF E s.heap.size) s.heap H locs) (hls : ls.size = nL) (hM : mM l y (ws_ y bytes maxL ret) rm E z As (some (.int v)) zr)
    (cw : CallW R s args RX2 RX2 index y bytes maxL ret (ws_ y bytes maxL ret) rm 0 0 n) (hst : st = As.reverse ++ .ref (E.2.2.2.1 0) :: rest) (hn : As.length = n) (hroom : 2 * (F0 m pc ls st).monitorRoom + (rest.map fun v => v.category).sum ≤ 8) (hdg : decode cc pc = .ok (.invokevirtual index, 3))
    (kk : ∀ (H1 : Heap) (locs1 : List Loc), va_P E.1 E.2.1 (mw E zr) H1 → va_S (mF E s.heap.size) s.heap H1 locs1 → W p l e R s m args below meth c H1 locs1 0 0 Q (F0 m (pc + 3) ls (.int v :: rest))) : W p l e R s m args below meth c H locs 0 0 Q (F0 m pc ls st) := m_call As hC hP hS hls hM cw hst hn hroom hdg kk
theorem m_calll {y : MethodName} {bytes : ByteArray} {maxL n index : Nat} {ret : Option FieldType} {rm : Room} {v : Int64} {zr : MS} {st : List Value} (As : List Value) (hC : mC E cc nL rt p s m args meth c) (hP : va_P E.1 E.2.1 (mw E z) H) (hS : va_S (mF E s.heap.size) s.heap H locs) (hls : ls.size = nL) (hM : mM l y (ws_ y bytes maxL ret) rm E z As (some (.long v)) zr)
    (cw : CallW R s args RX2 RX2 index y bytes maxL ret (ws_ y bytes maxL ret) rm 0 0 n) (hst : st = As.reverse ++ .ref (E.2.2.2.1 0) :: rest) (hn : As.length = n) (hroom : 2 * (F0 m pc ls st).monitorRoom + (rest.map fun v => v.category).sum ≤ 8) (hdg : decode cc pc = .ok (.invokevirtual index, 3))
    (kk : ∀ (H1 : Heap) (locs1 : List Loc), va_P E.1 E.2.1 (mw E zr) H1 → va_S (mF E s.heap.size) s.heap H1 locs1 → W p l e R s m args below meth c H1 locs1 0 0 Q (F0 m (pc + 3) ls (.long v :: rest))) : W p l e R s m args below meth c H locs 0 0 Q (F0 m pc ls st) := m_call As hC hP hS hls hM cw hst hn hroom hdg kk
theorem m_callv {y : MethodName} {bytes : ByteArray} {maxL n index : Nat} {ret : Option FieldType} {rm : Room} {zr : MS} {st : List Value} (As : List Value) (hC : mC E cc nL rt p s m args meth c) (hP : va_P E.1 E.2.1 (mw E z) H) (hS : va_S (mF E s.heap.size) s.heap H locs) (hls : ls.size = nL) (hM : mM l y (ws_ y bytes maxL ret) rm E z As none zr)
    (cw : CallW R s args RX2 RX2 index y bytes maxL ret (ws_ y bytes maxL ret) rm 0 0 n) (hst : st = As.reverse ++ .ref (E.2.2.2.1 0) :: rest) (hn : As.length = n) (hroom : 2 * (F0 m pc ls st).monitorRoom + (rest.map fun v => v.category).sum ≤ 8) (hdg : decode cc pc = .ok (.invokevirtual index, 3))
    (kk : ∀ (H1 : Heap) (locs1 : List Loc), va_P E.1 E.2.1 (mw E zr) H1 → va_S (mF E s.heap.size) s.heap H1 locs1 → W p l e R s m args below meth c H1 locs1 0 0 Q (F0 m (pc + 3) ls rest)) : W p l e R s m args below meth c H locs 0 0 Q (F0 m pc ls st) := m_call As hC hP hS hls hM cw hst hn hroom hdg kk
theorem m_ret {o : Option Value} (hS : va_S (mF E s.heap.size) s.heap H locs) (hP : va_P E.1 E.2.1 (mw E z) H) : ∀ t : State, t.heap = H → s.WarmedH t.vm → mQc E o z s.heap.size args s (.returned o) t := fun t ht hW => ⟨rfl, by rw [ht]; exact hP, hS.F ht⟩
theorem m_iret {v : Int32} (hC : mC E cc nL (some .int) p s m args meth c) (hP : va_P E.1 E.2.1 (mw E z) H) (hS : va_S (mF E s.heap.size) s.heap H locs) (hdg : decode cc pc = .ok (.ireturn, 1)) : W p l e R s m args below meth c H locs 0 0 (mQ E below args s (some (.int v)) z) (F0 m pc ls [.int v]) := by
  obtain ⟨hx, hb, hr, hlocks, -⟩ := hC
  exact W.iret hx hb hr (m_ret hS hP) hS.2.2 hdg
theorem m_zret {v : Int32} (hC : mC E cc nL (some .boolean) p s m args meth c) (hP : va_P E.1 E.2.1 (mw E z) H) (hS : va_S (mF E s.heap.size) s.heap H locs) (hv : v &&& 1 = v) (hdg : decode cc pc = .ok (.ireturn, 1)) : W p l e R s m args below meth c H locs 0 0 (mQ E below args s (some (.int v)) z) (F0 m pc ls [.int v]) := by
  obtain ⟨hx, hb, hr, hlocks, -⟩ := hC
  exact W.zret hx hb hr (by show Value.int (v &&& 1) = _; rw [hv]) (m_ret hS hP) hS.2.2 hdg
theorem m_lret {v : Int64} (hC : mC E cc nL (some .long) p s m args meth c) (hP : va_P E.1 E.2.1 (mw E z) H) (hS : va_S (mF E s.heap.size) s.heap H locs) (hdg : decode cc pc = .ok (.lreturn, 1)) : W p l e R s m args below meth c H locs 0 0 (mQ E below args s (some (.long v)) z) (F0 m pc ls [.long v]) := by
  obtain ⟨hx, hb, hr, hlocks, -⟩ := hC
  exact W.lret hx hb hr (m_ret hS hP) hS.2.2 hdg
theorem m_vret (hC : mC E cc nL none p s m args meth c) (hP : va_P E.1 E.2.1 (mw E z) H) (hS : va_S (mF E s.heap.size) s.heap H locs) (hdg : decode cc pc = .ok (.return_, 1)) : W p l e R s m args below meth c H locs 0 0 (mQ E below args s none z) (F0 m pc ls []) := by
  obtain ⟨hx, hb, hr, hlocks, -⟩ := hC
  exact W.vret hx hb hr (m_ret hS hP) hS.2.2 hdg
theorem m_get {own_ix : Nat} (hC : mC E cc nL rt p s m args meth c) (hP : va_P E.1 E.2.1 (mw E z) H) (hin : ∀ w ∈ u_ws RX2 TX2 32, w ∈ lw_all) (k : Nat) (hk : k < 32) {v : Value} (hlink : Cond.fieldLink RX2 own_ix RX2 (TX2 k).2.1 (TX2 k).2.2.1 ∈ lw_all) (hsame : (TX2 k).1 = RX2) (hv : (mfs E.2.2.2.1 z)[k]? = some v) (hdg : decode cc pc = .ok (.getfield own_ix, 3))
    (kk : W p l e R s m args below meth c H locs 0 0 Q (F0 m (pc + 3) ls (v :: rest))) : W p l e R s m args below meth c H locs 0 0 Q (F0 m pc ls (.ref (E.2.2.2.1 0) :: rest)) := by
  obtain ⟨hx, hb, hr, hlocks, hml, hown, hts, hK, hci, hinj⟩ := hC
  exact va_get (D := E.1) (cl := E.2.1) (ci := E.2.2.1) (v := v) (C := RX2) (T := TX2) (N := 32) hx hb hts hin hown hK hP 0 rfl hci k hk (hts _ hlink) (fun _ h9 => by rw [← hsame]; exact h9) hv hdg kk
theorem m_put {own_ix : Nat} {z1 : MS} (hC : mC E cc nL rt p s m args meth c) (hP : va_P E.1 E.2.1 (mw E z) H) (hS : va_S (mF E s.heap.size) s.heap H locs) (hin : ∀ w ∈ u_ws RX2 TX2 32, w ∈ lw_all) (k : Nat) (hk : k < 32) {v : Value} {ty : FieldType} (hlink : Cond.fieldLink RX2 own_ix RX2 (TX2 k).2.1 (TX2 k).2.2.1 ∈ lw_all) (hsame : (TX2 k).1 = RX2) (hfin : (TX2 k).2.2.2 = false) (hd : parseFieldDescriptor (TX2 k).2.2.1 = some ty) (hn : narrow ty v = v) (hfit : fits ty v = true) (hset : (mfs E.2.2.2.1 z).set k v = mfs E.2.2.2.1 z1) (hset2 : z1.2.2 = z.2.2) (hdg : decode cc pc = .ok (.putfield own_ix, 3))
    (kk : ∀ (H1 : Heap) (locs1 : List Loc), va_P E.1 E.2.1 (mw E z1) H1 → va_S (mF E s.heap.size) s.heap H1 locs1 → W p l e R s m args below meth c H1 locs1 0 0 Q (F0 m (pc + 3) ls rest)) : W p l e R s m args below meth c H locs 0 0 Q (F0 m pc ls (v :: .ref (E.2.2.2.1 0) :: rest)) := by
  obtain ⟨hx, hb, hr, hlocks, hml, hown, hts, hK, hci, hinj⟩ := hC
  refine va_put (D := E.1) (cl := E.2.1) (ci := E.2.2.1) (v := v) (ty := ty) (C := RX2) (T := TX2) (N := 32) hx hb hts hin tyX2 tyX2_ok nmX2 hown hK hP (mw_D E z _ hinj) hS 0 rfl hci k hk (hts _ hlink) (fun _ h9 => by rw [← hsame]; exact h9) hfin hd hn hfit (by exact hk) hdg (fun H1 locs1 hP1 _ hS1 => kk H1 locs1 ?_ hS1)
  rw [hset] at hP1
  have e : (mw E z).set 0 (E.2.2.2.1 0, .inr (E.2.2.1, mfs E.2.2.2.1 z1)) = mw E z1 := by
    unfold mw
    rw [hset2]
    rfl
  rw [← e]
  exact hP1
theorem m_iald (hC : mC E cc nL rt p s m args meth c) (hP : va_P E.1 E.2.1 (mw E z) H) (q0 : Nat) {a n : Nat} {f : Nat → Int32} (ha : (mw E z)[q0]? = some (a, .inl (E.2.2.2.2 0, n, .inl f))) {i : Int32} (hin : ¬ ib i n) (hdg : decode cc pc = .ok (.iaload, 1))
    (kk : W p l e R s m args below meth c H locs 0 0 Q (F0 m (pc + 1) ls (.int (f i.toNatClampNeg) :: rest))) : W p l e R s m args below meth c H locs 0 0 Q (F0 m pc ls (.int i :: .ref a :: rest)) := by
  obtain ⟨hx, hb, hr, hlocks, hml, hown, hts, hK, hci, hinj⟩ := hC
  exact va_iald hx hb hK hP q0 0 ha rfl hin hdg kk
theorem m_zald (hC : mC E cc nL rt p s m args meth c) (hP : va_P E.1 E.2.1 (mw E z) H) (q0 : Nat) {a n : Nat} {f : Nat → Int32} (ha : (mw E z)[q0]? = some (a, .inl (E.2.2.2.2 2, n, .inl f))) {i : Int32} (hin : ¬ ib i n) (hdg : decode cc pc = .ok (.baload, 1))
    (kk : W p l e R s m args below meth c H locs 0 0 Q (F0 m (pc + 1) ls (.int (f i.toNatClampNeg) :: rest))) : W p l e R s m args below meth c H locs 0 0 Q (F0 m pc ls (.int i :: .ref a :: rest)) := by
  obtain ⟨hx, hb, hr, hlocks, hml, hown, hts, hK, hci, hinj⟩ := hC
  exact va_zald hx hb hK hP q0 2 ha rfl hin hdg kk
theorem m_lald (hC : mC E cc nL rt p s m args meth c) (hP : va_P E.1 E.2.1 (mw E z) H) (q0 : Nat) {a n : Nat} {f : Nat → Int64} (ha : (mw E z)[q0]? = some (a, .inl (E.2.2.2.2 1, n, .inr (.inl f)))) {i : Int32} (hin : ¬ ib i n) (hdg : decode cc pc = .ok (.laload, 1))
    (kk : W p l e R s m args below meth c H locs 0 0 Q (F0 m (pc + 1) ls (.long (f i.toNatClampNeg) :: rest))) : W p l e R s m args below meth c H locs 0 0 Q (F0 m pc ls (.int i :: .ref a :: rest)) := by
  obtain ⟨hx, hb, hr, hlocks, hml, hown, hts, hK, hci, hinj⟩ := hC
  exact va_lald hx hb hK hP q0 1 ha rfl hin hdg kk
theorem m_iast (hC : mC E cc nL rt p s m args meth c) (hP : va_P E.1 E.2.1 (mw E z) H) (hS : va_S (mF E s.heap.size) s.heap H locs) (q0 : Nat) {a n : Nat} {f : Nat → Int32} (ha : (mw E z)[q0]? = some (a, .inl (E.2.2.2.2 0, n, .inl f))) {i x : Int32} {z1 : MS} (hset : (mw E z).set q0 (a, .inl (E.2.2.2.2 0, n, .inl (upd f i.toNatClampNeg x))) = mw E z1) (hin : ¬ ib i n) (hdg : decode cc pc = .ok (.iastore, 1))
    (kk : ∀ (H1 : Heap) (locs1 : List Loc), va_P E.1 E.2.1 (mw E z1) H1 → va_S (mF E s.heap.size) s.heap H1 locs1 → W p l e R s m args below meth c H1 locs1 0 0 Q (F0 m (pc + 1) ls rest)) : W p l e R s m args below meth c H locs 0 0 Q (F0 m pc ls (.int x :: .int i :: .ref a :: rest)) := by
  obtain ⟨hx, hb, hr, hlocks, hml, hown, hts, hK, hci, hinj⟩ := hC
  exact va_iast hx hb hK hP (mw_D E z _ hinj) hS q0 0 ha rfl hin hdg (fun H1 locs1 hP1 _ hS1 => kk H1 locs1 (by rw [← hset]; exact hP1) hS1)
theorem m_zast (hC : mC E cc nL rt p s m args meth c) (hP : va_P E.1 E.2.1 (mw E z) H) (hS : va_S (mF E s.heap.size) s.heap H locs) (q0 : Nat) {a n : Nat} {f : Nat → Int32} (ha : (mw E z)[q0]? = some (a, .inl (E.2.2.2.2 2, n, .inl f))) {i x : Int32} {z1 : MS} (hset : (mw E z).set q0 (a, .inl (E.2.2.2.2 2, n, .inl (upd f i.toNatClampNeg (x &&& 1)))) = mw E z1) (hin : ¬ ib i n) (hdg : decode cc pc = .ok (.bastore, 1))
    (kk : ∀ (H1 : Heap) (locs1 : List Loc), va_P E.1 E.2.1 (mw E z1) H1 → va_S (mF E s.heap.size) s.heap H1 locs1 → W p l e R s m args below meth c H1 locs1 0 0 Q (F0 m (pc + 1) ls rest)) : W p l e R s m args below meth c H locs 0 0 Q (F0 m pc ls (.int x :: .int i :: .ref a :: rest)) := by
  obtain ⟨hx, hb, hr, hlocks, hml, hown, hts, hK, hci, hinj⟩ := hC
  exact va_zast hx hb hK hP (mw_D E z _ hinj) hS q0 2 ha rfl hin hdg (fun H1 locs1 hP1 _ hS1 => kk H1 locs1 (by rw [← hset]; exact hP1) hS1)
theorem m_last (hC : mC E cc nL rt p s m args meth c) (hP : va_P E.1 E.2.1 (mw E z) H) (hS : va_S (mF E s.heap.size) s.heap H locs) (q0 : Nat) {a n : Nat} {f : Nat → Int64} (ha : (mw E z)[q0]? = some (a, .inl (E.2.2.2.2 1, n, .inr (.inl f)))) {i : Int32} {x : Int64} {z1 : MS} (hset : (mw E z).set q0 (a, .inl (E.2.2.2.2 1, n, .inr (.inl (vp_updL f i.toNatClampNeg x)))) = mw E z1) (hin : ¬ ib i n) (hdg : decode cc pc = .ok (.lastore, 1))
    (kk : ∀ (H1 : Heap) (locs1 : List Loc), va_P E.1 E.2.1 (mw E z1) H1 → va_S (mF E s.heap.size) s.heap H1 locs1 → W p l e R s m args below meth c H1 locs1 0 0 Q (F0 m (pc + 1) ls rest)) : W p l e R s m args below meth c H locs 0 0 Q (F0 m pc ls (.long x :: .int i :: .ref a :: rest)) := by
  obtain ⟨hx, hb, hr, hlocks, hml, hown, hts, hK, hci, hinj⟩ := hC
  exact va_last hx hb hK hP (mw_D E z _ hinj) hS q0 1 ha rfl hin hdg (fun H1 locs1 hP1 _ hS1 => kk H1 locs1 (by rw [← hset]; exact hP1) hS1)
end MB
/-! static methods: no cells -/
def sC (own : String) (cc : ByteArray) (nL : Nat) (rt : Option FieldType) (p : Program) (s : State) (m : MethodId) (args : Array Value) (meth : Method) (c : Code) : Prop :=
  p.tables.exec = Jvm.exec ∧ c.code = cc ∧ meth.sig.returnType = rt ∧ meth.locks = false ∧ c.maxLocals = nL ∧ s.vm.findClass own = some m.cls ∧ (∀ w ∈ lw_all, w.before args s = true)
theorem mC.sC {E : ME} {cc : ByteArray} {nL : Nat} {rt : Option FieldType} {p : Program} {s : State} {m : MethodId} {args : Array Value} {meth : Method} {c : Code} (h : mC E cc nL rt p s m args meth c) : sC RX2 cc nL rt p s m args meth c := ⟨h.1, h.2.1, h.2.2.1, h.2.2.2.1, h.2.2.2.2.1, h.2.2.2.2.2.1, h.2.2.2.2.2.2.1⟩
def sQ (below : List Frame) (args : Array Value) (s : State) (o : Option Value) : State → Prop := MQ below (fun _ st oc t => oc = .returned o ∧ t.heap = st.heap) args s 0 0 (fun _ => False)
def sW (p : Program) (l : Launch) (e : Env) (R : Room) (s : State) (m : MethodId) (args : Array Value) (below : List Frame) (meth : Method) (c : Code) (nL : Nat) (Q : State → Prop) (pc : Nat) (lv : List (Nat × Value)) (st : List Value) : Prop :=
  ∀ (ls : Array Slot), lv_has ls nL lv → W p l e R s m args below meth c s.heap [] 0 0 Q (F0 m pc ls st)
theorem s_met {l : Launch} {y : MethodName} {own : String} {cc : ByteArray} {maxL : Nat} {ret : Option FieldType} {rm : Room} {vs : List Value} {o : Option Value} (hy : plainName y.cls = true) (hc : y.cls = own) (hlen : (lg_sl vs).length ≤ maxL)
    (body : ∀ (p : Program) (e : Env) (s : State) (m : MethodId) (args : Array Value) (below : List Frame) (meth : Method) (c : Code), sC own cc maxL ret p s m args meth c → sW p l e rm s m args below meth c maxL (sQ below args s o) 0 (lv_args 0 vs) []) : sM l y (ws_ y cc maxL ret) rm vs o := by
  refine Met.ofW (cc := cc) (maxL := maxL) (ret := ret) hy rfl ?_
  intro p e s m args below meth c s₁ B hml hv
  subst hv
  have hts := atoms_spec (ws := ws_ y cc maxL ret) B.pre
  have hts : ∀ w ∈ lw_all, w.before _ s = true := fun w h => hts w (List.mem_cons_of_mem _ h)
  have hown : s.vm.findClass own = some m.cls := by rw [← hc]; exact findClass_of_methodNamed B.named
  have hl := lv_entry vs (n := maxL) hlen
  rw [lg_entry_eq]
  exact body p e s m _ below meth c ⟨B.exec, B.bytes, B.returns, B.notSynchronized, hml, hown, hts⟩ _ hl
section SB
variable {p : Program} {l : Launch} {e : Env} {R : Room} {s : State} {m : MethodId} {args : Array Value} {below : List Frame} {meth : Method} {c : Code} {H : Heap} {locs : List Loc} {cells slots : Nat} {Q : State → Prop} {own : String} {cc : ByteArray} {nL : Nat} {rt : Option FieldType} {ls : Array Slot} {pc : Nat} {rest : List Value}
theorem s_call {y : MethodName} {bytes : ByteArray} {maxL n index : Nat} {ret : Option FieldType} {rm : Room} {o : Option Value} {st : List Value} (As : List Value) (hC : sC own cc nL rt p s m args meth c) (hls : ls.size = nL) (hM : sM l y (ws_ y bytes maxL ret) rm As o)
    (cw : CallB R s args own index y bytes maxL ret (ws_ y bytes maxL ret) rm 0 0 n ∧ (Cond.static y).before args s = true) (hst : st = As.reverse ++ rest) (hn : As.length = n) (hroom : 2 * (F0 m pc ls st).monitorRoom + (rest.map fun v => v.category).sum ≤ 8) (hfit : cells + 0 ≤ R.cells ∧ slots + 0 ≤ R.slots) (hdg : decode cc pc = .ok (.invokestatic index, 3))
    (kk : W p l e R s m args below meth c H locs cells slots Q (F0 m (pc + 3) ls (o.toList ++ rest))) : W p l e R s m args below meth c H locs cells slots Q (F0 m pc ls st) := by
  obtain ⟨hx, hb, hr, hlocks, hml, hown, hts⟩ := hC
  have hr := va_runS (l := l) (e := e) (R := R) (below := below) (meth := meth) (H := H) (locs := locs) (cells := cells) (slots := slots) (g := F0 m pc ls st) (Ts := lw_all) (rest := rest) ⟨hx, hb, hml, hown, hts⟩ hM cw ⟨fun a U g mk q => q, fun U hU hW => rfl⟩ rfl hn hls hst hroom hdg hfit
  intro T hT X
  obtain ⟨v, st₀, t, T', L, h0, X', hL, e1, e2, ⟨hv, hh⟩, sg⟩ := hr T hT X
  cases hv
  obtain ⟨t2, a1, b1⟩ := kk T' (by rw [e1, hh, h0]) (Stand.forget X' (fun q h => (hL q h).elim))
  exact ⟨t2, sg t2 a1, b1⟩
theorem s_calli {y : MethodName} {bytes : ByteArray} {maxL n index : Nat} {ret : Option FieldType} {rm : Room} {v : Int32} {st : List Value} (As : List Value) (hC : sC own cc nL rt p s m args meth c) (hls : ls.size = nL) (hM : sM l y (ws_ y bytes maxL ret) rm As (some (.int v)))
    (cw : CallB R s args own index y bytes maxL ret (ws_ y bytes maxL ret) rm 0 0 n ∧ (Cond.static y).before args s = true) (hst : st = As.reverse ++ rest) (hn : As.length = n) (hroom : 2 * (F0 m pc ls st).monitorRoom + (rest.map fun v => v.category).sum ≤ 8) (hfit : cells + 0 ≤ R.cells ∧ slots + 0 ≤ R.slots) (hdg : decode cc pc = .ok (.invokestatic index, 3))
    (kk : W p l e R s m args below meth c H locs cells slots Q (F0 m (pc + 3) ls (.int v :: rest))) : W p l e R s m args below meth c H locs cells slots Q (F0 m pc ls st) := s_call As hC hls hM cw hst hn hroom hfit hdg kk
theorem s_calll {y : MethodName} {bytes : ByteArray} {maxL n index : Nat} {ret : Option FieldType} {rm : Room} {v : Int64} {st : List Value} (As : List Value) (hC : sC own cc nL rt p s m args meth c) (hls : ls.size = nL) (hM : sM l y (ws_ y bytes maxL ret) rm As (some (.long v)))
    (cw : CallB R s args own index y bytes maxL ret (ws_ y bytes maxL ret) rm 0 0 n ∧ (Cond.static y).before args s = true) (hst : st = As.reverse ++ rest) (hn : As.length = n) (hroom : 2 * (F0 m pc ls st).monitorRoom + (rest.map fun v => v.category).sum ≤ 8) (hfit : cells + 0 ≤ R.cells ∧ slots + 0 ≤ R.slots) (hdg : decode cc pc = .ok (.invokestatic index, 3))
    (kk : W p l e R s m args below meth c H locs cells slots Q (F0 m (pc + 3) ls (.long v :: rest))) : W p l e R s m args below meth c H locs cells slots Q (F0 m pc ls st) := s_call As hC hls hM cw hst hn hroom hfit hdg kk
theorem s_iret {v : Int32} (hC : sC own cc nL (some .int) p s m args meth c) (hdg : decode cc pc = .ok (.ireturn, 1)) : W p l e R s m args below meth c s.heap [] 0 0 (sQ below args s (some (.int v))) (F0 m pc ls [.int v]) := by
  obtain ⟨hx, hb, hr, hlocks, -⟩ := hC
  exact W.iret hx hb hr (fun t ht hW => ⟨rfl, ht⟩) (fun q h => by cases h) hdg
theorem s_zret {v : Int32} (hC : sC own cc nL (some .boolean) p s m args meth c) (hv : v &&& 1 = v) (hdg : decode cc pc = .ok (.ireturn, 1)) : W p l e R s m args below meth c s.heap [] 0 0 (sQ below args s (some (.int v))) (F0 m pc ls [.int v]) := by
  obtain ⟨hx, hb, hr, hlocks, -⟩ := hC
  exact W.zret hx hb hr (by show Value.int (v &&& 1) = _; rw [hv]) (fun t ht hW => ⟨rfl, ht⟩) (fun q h => by cases h) hdg
theorem s_lret {v : Int64} (hC : sC own cc nL (some .long) p s m args meth c) (hdg : decode cc pc = .ok (.lreturn, 1)) : W p l e R s m args below meth c s.heap [] 0 0 (sQ below args s (some (.long v))) (F0 m pc ls [.long v]) := by
  obtain ⟨hx, hb, hr, hlocks, -⟩ := hC
  exact W.lret hx hb hr (fun t ht hW => ⟨rfl, ht⟩) (fun q h => by cases h) hdg
/-- a long compare and its branch: what it says of the longs -/
theorem lc_lt {x y : Int64} : lg_cmp x y < 0 ↔ x < y := by
  unfold lg_cmp
  split
  · rename_i h
    refine ⟨fun q => absurd q (by decide), fun q => absurd q (by grind)⟩
  · split
    · rename_i h1 h2
      refine ⟨fun q => absurd q (by decide), fun q => absurd q (by grind)⟩
    · rename_i h1 h2
      refine ⟨fun _ => by grind, fun _ => by decide⟩
end SB
/-- a named value in a pure function -/
def nm {α β : Type} (a : α) (f : α → β) : β := f a
theorem on {α β : Type} {a : α} {f : α → Option β} {y : β} (h : nm a f = some y) : ∃ b, b = a ∧ f b = some y := ⟨a, rfl, h⟩
theorem oel {α β γ : Type} {f : α → Option γ} {g : β → Option γ} {t : α} {y : γ} (h : Sum.elim f g (.inl t) = some y) : f t = some y := h
theorem oer {α β γ : Type} {f : α → Option γ} {g : β → Option γ} {t : β} {y : γ} (h : Sum.elim f g (.inr t) = some y) : g t = some y := h
section NB
variable {p : Program} {l : Launch} {e : Env} {R : Room} {s : State} {m : MethodId} {args : Array Value} {below : List Frame} {meth : Method} {c : Code} {H : Heap} {locs : List Loc} {cells slots : Nat} {Q : State → Prop} {cc : ByteArray} {ls : Array Slot} {pc : Nat} {rest : List Value}
theorem nm_i {x : Int32} {α : Type} {f : Int32 → Option α} {y : α} (hE : nm x f = some y) (k : ∀ v : Int32, v = x → f v = some y → W p l e R s m args below meth c H locs cells slots Q (F0 m pc ls (.int v :: rest))) : W p l e R s m args below meth c H locs cells slots Q (F0 m pc ls (.int x :: rest)) := k x rfl hE
theorem nm_l {x : Int64} {α : Type} {f : Int64 → Option α} {y : α} (hE : nm x f = some y) (k : ∀ v : Int64, v = x → f v = some y → W p l e R s m args below meth c H locs cells slots Q (F0 m pc ls (.long v :: rest))) : W p l e R s m args below meth c H locs cells slots Q (F0 m pc ls (.long x :: rest)) := k x rfl hE
theorem m_tdef (hexec : p.tables.exec = Jvm.exec) (hb : c.code = cc) {dflt lo hi : Int} {offs : Array Int} {len : Nat} {x : Int32} {tgt : Nat} (hdg : decode cc pc = .ok (.tableswitch dflt lo hi offs, len)) (ht : (pc : Int) + dflt = (tgt : Int)) (h : lo ≤ x.toInt → x.toInt ≤ hi → offs[(x.toInt - lo).toNat]? = some dflt)
    (k : W p l e R s m args below meth c H locs cells slots Q (F0 m tgt ls rest)) : W p l e R s m args below meth c H locs cells slots Q (F0 m pc ls (.int x :: rest)) := by
  by_cases h1 : x.toInt < lo
  · exact lv_tableOut hexec hb hdg (Or.inl h1) ht k
  · by_cases h2 : hi < x.toInt
    · exact lv_tableOut hexec hb hdg (Or.inr h2) ht k
    · exact lv_tableIn hexec hb hdg h1 h2 (h (by omega) (by omega)) ht k
end NB
/-! static methods that see M's world -/
def nPc (E : ME) (z : MS) (sz : Nat) (vs : List Value) : Array Value → State → Prop := fun v U => v = vs.toArray ∧ U.heap.size = sz ∧ va_P E.1 E.2.1 (mw E z) U.heap ∧ va_K E.1 E.2.1 (mtys E) U
def nM (l : Launch) (y : MethodName) (ws : List Cond) (rm : Room) (E : ME) (z : MS) (vs : List Value) (o : Option Value) (zr : MS) : Prop := mInj E → E.2.1[E.2.2.1]? = some (RX2, TX2, 32) → ∀ sz, Met l y ws rm (nPc E z sz vs) (mQc E o zr sz) 0 0 (mF E sz)
theorem nPc_blind (E : ME) (z : MS) (sz : Nat) (vs : List Value) : FrameBlind (nPc E z sz vs) := fun a U g mk q => by
  obtain ⟨q0, q1, qP, qK⟩ := q
  exact ⟨q0, q1, qP, va_K.moved (u := U) (U := U.calling g mk a) (Vm.Alike.refl U.vm) qK⟩
theorem n_met {l : Launch} {y : MethodName} {cc : ByteArray} {maxL : Nat} {ret : Option FieldType} {rm : Room} {E : ME} {z zr : MS} {vs : List Value} {o : Option Value} (hy : plainName y.cls = true) (hc : y.cls = RX2) (hlen : (lg_sl vs).length ≤ maxL)
    (body : ∀ (p : Program) (e : Env) (s : State) (m : MethodId) (args : Array Value) (below : List Frame) (meth : Method) (c : Code), mC E cc maxL ret p s m args meth c → mW p l e rm s m args below meth c E maxL (mQ E below args s o zr) 0 (lv_args 0 vs) [] z) : nM l y (ws_ y cc maxL ret) rm E z vs o zr := by
  intro hinj hci sz
  refine Met.ofW (cc := cc) (maxL := maxL) (ret := ret) hy rfl ?_
  intro p e s m args below meth c s₁ B hml hv
  obtain ⟨rfl, hsz, hP, hK⟩ := hv
  have hts := atoms_spec (ws := ws_ y cc maxL ret) B.pre
  have hts : ∀ w ∈ lw_all, w.before _ s = true := fun w h => hts w (List.mem_cons_of_mem _ h)
  have hown : s.vm.findClass RX2 = some m.cls := by rw [← hc]; exact findClass_of_methodNamed B.named
  subst hsz
  have hl := lv_entry vs (n := maxL) hlen
  rw [lg_entry_eq]
  exact body p e s m _ below meth c ⟨B.exec, B.bytes, B.returns, B.notSynchronized, hml, hown, hts, hK, hci, hinj⟩ s.heap [] _ hP va_S.rf hl
section NB2
variable {p : Program} {l : Launch} {e : Env} {R : Room} {s : State} {m : MethodId} {args : Array Value} {below : List Frame} {meth : Method} {c : Code} {H : Heap} {locs : List Loc} {Q : State → Prop} {E : ME} {cc : ByteArray} {nL : Nat} {rt : Option FieldType} {z : MS} {ls : Array Slot} {pc : Nat} {rest : List Value}
theorem n_callv {y : MethodName} {bytes : ByteArray} {maxL n index : Nat} {ret : Option FieldType} {rm : Room} {zr : MS} {st : List Value} (As : List Value) (hC : mC E cc nL rt p s m args meth c) (hP : va_P E.1 E.2.1 (mw E z) H) (hS : va_S (mF E s.heap.size) s.heap H locs) (hls : ls.size = nL) (hM : nM l y (ws_ y bytes maxL ret) rm E z As none zr)
    (cw : CallB R s args RX2 index y bytes maxL ret (ws_ y bytes maxL ret) rm 0 0 n ∧ (Cond.static y).before args s = true) (hst : st = As.reverse ++ rest) (hn : As.length = n) (hroom : 2 * (F0 m pc ls st).monitorRoom + (rest.map fun v => v.category).sum ≤ 8) (hdg : decode cc pc = .ok (.invokestatic index, 3))
    (kk : ∀ (H1 : Heap) (locs1 : List Loc), va_P E.1 E.2.1 (mw E zr) H1 → va_S (mF E s.heap.size) s.heap H1 locs1 → W p l e R s m args below meth c H1 locs1 0 0 Q (F0 m (pc + 3) ls rest)) : W p l e R s m args below meth c H locs 0 0 Q (F0 m pc ls st) := by
  obtain ⟨hx, hb, hr, hlocks, hml, hown, hts, hK, hci, hinj⟩ := hC
  have hr := va_runS (l := l) (e := e) (R := R) (below := below) (meth := meth) (locs := locs) (cells := 0) (slots := 0) (g := F0 m pc ls st) (Ts := lw_all) (rest := rest) ⟨hx, hb, hml, hown, hts⟩ (hM hinj hci H.size) cw ⟨nPc_blind E z H.size As, fun U hU hW => ⟨rfl, by rw [hU], by rw [hU]; exact hP, va_K.moved hW.alike hK⟩⟩ rfl hn hls hst hroom hdg ⟨Nat.zero_le _, Nat.zero_le _⟩
  intro T hT X
  obtain ⟨v, st₀, t, T', L, h0, X', hL, e1, e2, ⟨hv, hp, hz, hk⟩, sg⟩ := hr T hT X
  cases hv
  rw [h0] at hz hk
  have hm : ∀ q, mF E H.size q → mF E s.heap.size q := mF_mono hS.1
  obtain ⟨t2, a1, b1⟩ := kk T'.heap (locs ++ L) (by rw [e1]; exact hp) ⟨Nat.le_trans hS.1 (by rw [e1]; exact hz), fun q h1 h2 => by rw [e1, hk q (Nat.lt_of_lt_of_le h1 hS.1) (fun w => h2 (hm q w))]; exact hS.2.1 q h1 h2, fun q hq => by
      rcases List.mem_append.mp hq with h | h
      · exact hS.2.2 q h
      · exact hm _ (hL q h)⟩ T' rfl X'
  exact ⟨t2, sg t2 a1, b1⟩
end NB2
