set_option maxRecDepth 100000
/-- a loop that makes cells: a test, a body, so many rounds at most -/
def lpw {α β : Type} (T : α → Option (Option β)) (Bd : α → Option (α ⊕ β)) : Nat → α → Option β
  | 0, a => (T a).bind fun t => t
  | n + 1, a => (T a).bind fun t => match t with
    | some b => some b
    | none => (Bd a).bind fun y => match y with
      | .inl a' => lpw T Bd n a'
      | .inr b => some b
theorem lpw_walk {α β : Type} {T : α → Option (Option β)} {Bd : α → Option (α ⊕ β)} (Wh Wb : Nat → α → Prop) (Wx : β → Prop) (hT : ∀ n a t, T a = some t → (t = none → 1 ≤ n ∧ Wb (n - 1) a) → (∀ b, t = some b → Wx b) → Wh n a) (hB : ∀ n a y, Bd a = some y → (∀ a', y = .inl a' → Wh n a') → (∀ b, y = .inr b → Wx b) → Wb n a) : ∀ (n : Nat) (a : α) (x : β), lpw T Bd n a = some x → Wx x → Wh n a := by
  intro n
  induction n with
  | zero =>
    intro a x h hx
    rw [lpw] at h
    obtain ⟨t, h1, h2⟩ := ob h
    subst h2
    exact hT 0 a _ h1 (fun e => by cases e) (fun b e => by cases e; exact hx)
  | succ n ih =>
    intro a x h hx
    rw [lpw] at h
    obtain ⟨t, h1, h2⟩ := ob h
    refine hT (n + 1) a t h1 (fun e => ⟨by omega, ?_⟩) (fun b e => ?_)
    · subst e
      obtain ⟨y, h3, h4⟩ := ob h2
      refine hB _ a y h3 (fun a' e => ?_) (fun b e => ?_)
      · subst e; exact ih a' x h4 hx
      · subst e; cases h4; exact hx
    · subst e; cases h2; exact hx
noncomputable def gdp (P : Prop) {α : Type} (o : Option α) : Option α := @ite _ P (Classical.propDecidable P) o none
theorem ogp {P : Prop} {α : Type} {o : Option α} {y : α} (h : gdp P o = some y) : P ∧ o = some y := by
  unfold gdp at h
  by_cases hp : P
  · rw [if_pos hp] at h; exact ⟨hp, h⟩
  · rw [if_neg hp] at h; cases h
/-- all texts of a row are texts -/
def xTok (V : XV) (z : XS) (k : Nat) : Prop := ∀ i y, i < 4 → z.2.2 k i = some y → V.2.2 y
theorem hBw {c a b x Rc u a' b' x' Rs : Nat} (h : c + (a + x) ≤ Rc ∧ u + (a' + x') ≤ Rs) (h1 : b ≤ a) (h2 : b' ≤ a') : c + (b + x) ≤ Rc ∧ u + (b' + x') ≤ Rs := ⟨by omega, by omega⟩
theorem hBv {c a b Rc u a' b' Rs : Nat} (h : c + a ≤ Rc ∧ u + a' ≤ Rs) (h1 : b ≤ a) (h2 : b' ≤ a') : c + b ≤ Rc ∧ u + b' ≤ Rs := ⟨by omega, by omega⟩
theorem hBr {c a b Rc u a' b' Rs : Nat} (h : c + a ≤ Rc ∧ u + a' ≤ Rs) (h1 : b ≤ a ∧ b' ≤ a') : c + b ≤ Rc ∧ u + b' ≤ Rs := ⟨by omega, by omega⟩
theorem hBq {c a b x Rc u a' b' x' Rs : Nat} (h : c + (a + x) ≤ Rc ∧ u + (a' + x') ≤ Rs) (h1 : b ≤ x ∧ b' ≤ x') : c + b ≤ Rc ∧ u + b' ≤ Rs := ⟨by omega, by omega⟩
theorem hB0 {c a Rc u a' Rs : Nat} (h : c + a ≤ Rc ∧ u + a' ≤ Rs) : c + 0 ≤ Rc ∧ u + 0 ≤ Rs := ⟨by omega, by omega⟩
theorem hrm {mc r1 r b : Nat} (h : mc + r1 = r) : mc + (r1 + b) ≤ r + b := by omega
/-- what a law's place holds: nothing, or a node -/
def LawAt (E : XE) (o : Option Nat) (w : Option SemF) (H : Heap) : Prop := match o, w with
  | none, none => True
  | some a, some u => ∃ d, d ≤ 200 ∧ NodeAt E E.2.2.2.2.1 d true a u H
  | _, _ => False
theorem LawAt.kept {E : XE} {o : Option Nat} {w : Option SemF} {H H1 : Heap} (h : LawAt E o w H) (hq : ∀ q, q < H.size → E.2.2.2.2.1 q → H1[q]? = H[q]?) : LawAt E o w H1 := by
  match o, w, h with
  | none, none, _ => trivial
  | some a, some u, h => obtain ⟨d, h0, h1⟩ := h; exact ⟨d, h0, NodeAt.kept hq _ _ _ _ h1⟩
/-- the list at dl holds the doings L -/
def DoAt (E : XE) (dl : Nat) (L : List (Int32 × Int32 × Int32 × Int32)) (H : Heap) : Prop := ∃ (ea cap : Nat) (mc : Int32) (g : Nat → Option Nat), (E.2.2.2.2.1 dl ∧ E.2.2.2.2.1 ea) ∧ LAt E dl ea cap mc (nI L.length) g H ∧ L.length ≤ 24 ∧ ∀ i, i < L.length → i < cap ∧ ∃ x, g i = some x ∧ E.2.2.2.2.1 x ∧ va_at E.1 E.2.1 (x, .inr (15, [.int (L.getD i (0, 0, 0, 0)).1, .int (L.getD i (0, 0, 0, 0)).2.1, .int (L.getD i (0, 0, 0, 0)).2.2.1, .int (L.getD i (0, 0, 0, 0)).2.2.2])) H
theorem DoAt.kept {E : XE} {dl : Nat} {L : List (Int32 × Int32 × Int32 × Int32)} {H H1 : Heap} (h : DoAt E dl L H) (hq : ∀ q, q < H.size → E.2.2.2.2.1 q → H1[q]? = H[q]?) : DoAt E dl L H1 := by
  obtain ⟨ea, cap, mc, g, h1, h2, h3, h4⟩ := h
  refine ⟨ea, cap, mc, g, h1, h2.kept hq h1.1 h1.2, h3, fun i hi => ?_⟩
  obtain ⟨a1, x, a2, a3, a4⟩ := h4 i hi
  exact ⟨a1, x, a2, a3, a4.kept (hq _ a4.lt a3)⟩
/-- the text at a says tv -/
def TextAt (E : XE) (a : Nat) (tv : TV) (H : Heap) : Prop := ∃ (la dl : Nat) (n : Int32) (lw : Nat → Option Nat), E.2.2.2.2.1 a ∧ wOB E a 2 [.ref la, .int n, .ref dl] H ∧ E.2.2.2.2.1 la ∧ wAr E la 4 2 lw H ∧ LawAt E (lw 0) tv.1 H ∧ LawAt E (lw 1) tv.2.1 H ∧ DoAt E dl tv.2.2 H
theorem TextAt.kept {E : XE} {a : Nat} {tv : TV} {H H1 : Heap} (h : TextAt E a tv H) (hq : ∀ q, q < H.size → E.2.2.2.2.1 q → H1[q]? = H[q]?) : TextAt E a tv H1 := by
  obtain ⟨la, dl, n, lw, h1, h2, h3, h4, h5, h6, h7⟩ := h
  exact ⟨la, dl, n, lw, h1, h2.kept (hq a h2.lt h1), h3, h4.kept (hq la h4.lt h3), h5.kept hq, h6.kept hq, h7.kept hq⟩
/-- what lies outside X's cells and must stay: texts -/
def xTx (E : XE) (H : Heap) : Prop := ∀ a, E.2.2.2.2.2.2.2 a → TextAt E a (E.2.2.2.2.2.1 a) H
def xOk (E : XE) : Prop := xInj E ∧ xCl E ∧ (∀ q k, k < 144 → E.2.2.2.2.1 q → q ≠ E.2.2.1 k) ∧ E.2.2.2.2.2.2.2 E.2.2.2.2.2.2.1
/-- the static NOTHING -/
def xZ (E : XE) (U : State) : Prop := va_Z "RailingsCount" "NOTHING" "LRailingsCount$Text;" (.ref E.2.2.2.2.2.2.1) (fun q => ¬ (E.2.2.2.2.1 q ∧ q < U.heap.size)) U U.heap
def xG (E : XE) (U : State) : Prop := xNest U ∧ xTx E U.heap ∧ eG U ∧ xZ E U ∧ bZ E U
theorem xF_P {E : XE} (hok : xOk E) {sz q : Nat} (h1 : q < sz) (h2 : E.2.2.2.2.1 q) : ¬ xF E sz q := by
  intro h3
  rcases h3 with ⟨k, h4, h5⟩ | h3
  · exact hok.2.2.1 q k h4 h2 h5
  · omega
theorem xG_kept {E : XE} {s U : State} {H : Heap} {locs : List Loc} (hok : xOk E) (h : xG E s) (hS : va_S (xF E s.heap.size) s.heap H locs) (hW : s.WarmedH U.vm) (hU : U.heap = H) : xG E U := by
  have hk : ∀ q, q < s.heap.size → E.2.2.2.2.1 q → H[q]? = s.heap[q]? := fun q h1 h2 => hS.2.1 q h1 (xF_P hok h1 h2)
  refine ⟨xNest_moved hW h.1, fun a ha => ?_, eG_moved hW h.2.2.1, ?_, h.2.2.2.2.k ⟨hW, by rw [hU]; exact hS.1, fun q h1 h2 => by rw [hU]; exact hk q h1 h2⟩⟩
  · rw [hU]
    exact (h.2.1 a ha).kept hk
  · have h1 := (h.2.2.2.1.moved hW.alike).kept (H1 := H) (fun q h1 h2 => hk q h1 (Classical.byContradiction (fun h3 => h2 (fun h4 => h3 h4.1))))
    unfold xZ
    rw [hU]
    exact h1.narrow (fun q h2 h3 => h2 ⟨h3.1, Nat.lt_of_lt_of_le h3.2 hS.1⟩)
theorem xG_blind {E : XE} {U : State} (g : JFrame) (mk : MethodId) (a : Array Value) (h : xG E U) : xG E (U.calling g mk a) := ⟨xNest_same (s := U) (U := U.calling g mk a) rfl h.1, h.2.1, eG_same (s := U) (U := U.calling g mk a) rfl h.2.2.1, h.2.2.2.1.moved (u := U) (U := U.calling g mk a) (Vm.Alike.refl U.vm), h.2.2.2.2.k (s := U) (U := U.calling g mk a) ⟨State.WarmedH.refl U, Nat.le_refl _, fun _ _ _ => rfl⟩⟩
def xPc (E : XE) (z : XS) (sz : Nat) (vs : List Value) : Array Value → State → Prop := fun v U => v = vs.toArray ∧ U.heap.size = sz ∧ va_P E.1 E.2.1 (xw E z) U.heap ∧ va_K E.1 E.2.1 (xtys E) U ∧ xG E U
def xQc (E : XE) (o : Option Value) (z : XS) (sz : Nat) : Array Value → State → Outcome → State → Prop := fun _ st oc t => oc = .returned o ∧ va_P E.1 E.2.1 (xw E z) t.heap ∧ va_F (xF E sz) st t
/-- X's contract: from the state z with vs (this among them) it answers o, and leaves zr; at most rm's cells and slots are new -/
def xM (l : Launch) (y : MethodName) (ws : List Cond) (rm : Room) (E : XE) (z : XS) (vs : List Value) (o : Option Value) (zr : XS) : Prop := xOk E → ∀ sz, Met l y ws rm (xPc E z sz vs) (xQc E o zr sz) rm.cells rm.slots (xF E sz)
theorem xPc_blind (E : XE) (z : XS) (sz : Nat) (vs : List Value) : FrameBlind (xPc E z sz vs) := fun a U g mk q => by
  obtain ⟨q0, q1, qP, qK, qG⟩ := q
  exact ⟨q0, q1, qP, va_K.moved (u := U) (U := U.calling g mk a) (Vm.Alike.refl U.vm) qK, xG_blind g mk a qG⟩
def xC (E : XE) (own : String) (cc : ByteArray) (nL : Nat) (rt : Option FieldType) (p : Program) (s : State) (m : MethodId) (args : Array Value) (meth : Method) (c : Code) : Prop :=
  p.tables.exec = Jvm.exec ∧ c.code = cc ∧ meth.sig.returnType = rt ∧ meth.locks = false ∧ c.maxLocals = nL ∧ s.vm.findClass own = some m.cls ∧ (∀ w ∈ lw_all, w.before args s = true) ∧ va_K E.1 E.2.1 (xtys E) s ∧ xOk E ∧ xG E s
theorem xC.c0 {E : XE} {own : String} {cc : ByteArray} {nL : Nat} {rt : Option FieldType} {p : Program} {s : State} {m : MethodId} {args : Array Value} {meth : Method} {c : Code} (h : xC E own cc nL rt p s m args meth c) : E.2.1[0]? = some (RX0, TX0, 11) := h.2.2.2.2.2.2.2.2.1.2.1 0 _ rfl
theorem xC.c1 {E : XE} {own : String} {cc : ByteArray} {nL : Nat} {rt : Option FieldType} {p : Program} {s : State} {m : MethodId} {args : Array Value} {meth : Method} {c : Code} (h : xC E own cc nL rt p s m args meth c) : E.2.1[1]? = some (RX1, TX1, 9) := h.2.2.2.2.2.2.2.2.1.2.1 1 _ rfl
theorem xC.nest {E : XE} {own : String} {cc : ByteArray} {nL : Nat} {rt : Option FieldType} {p : Program} {s : State} {m : MethodId} {args : Array Value} {meth : Method} {c : Code} (h : xC E own cc nL rt p s m args meth c) : xNest s := h.2.2.2.2.2.2.2.2.2.1
theorem xC.sC {E : XE} {own : String} {cc : ByteArray} {nL : Nat} {rt : Option FieldType} {p : Program} {s : State} {m : MethodId} {args : Array Value} {meth : Method} {c : Code} (h : xC E own cc nL rt p s m args meth c) : sC own cc nL rt p s m args meth c := ⟨h.1, h.2.1, h.2.2.1, h.2.2.2.1, h.2.2.2.2.1, h.2.2.2.2.2.1, h.2.2.2.2.2.2.1⟩
def xQ (E : XE) (R : Room) (below : List Frame) (args : Array Value) (s : State) (o : Option Value) (zr : XS) : State → Prop := MQ below (xQc E o zr s.heap.size) args s R.cells R.slots (xF E s.heap.size)
/-- the machine at pc, with locals lv, stack st, X's state z; rc cells and rs slots are still wanted -/
def xW (p : Program) (l : Launch) (e : Env) (R : Room) (s : State) (m : MethodId) (args : Array Value) (below : List Frame) (meth : Method) (c : Code) (E : XE) (nL : Nat) (Q : State → Prop) (rc rs : Nat) (pc : Nat) (lv : List (Nat × Value)) (st : List Value) (z : XS) : Prop :=
  ∀ (H : Heap) (locs : List Loc) (cells slots : Nat) (ls : Array Slot), va_P E.1 E.2.1 (xw E z) H → va_S (xF E s.heap.size) s.heap H locs → (cells + rc ≤ R.cells ∧ slots + rs ≤ R.slots) → lv_has ls nL lv → W p l e R s m args below meth c H locs cells slots Q (F0 m pc ls st)
theorem x_met {l : Launch} {y : MethodName} {own : String} {cc : ByteArray} {maxL : Nat} {ret : Option FieldType} {rm : Room} {E : XE} {z zr : XS} {vs : List Value} {o : Option Value} (hy : plainName y.cls = true) (hc : y.cls = own) (hlen : (lg_sl vs).length ≤ maxL)
    (body : ∀ (p : Program) (e : Env) (s : State) (m : MethodId) (args : Array Value) (below : List Frame) (meth : Method) (c : Code), xC E own cc maxL ret p s m args meth c → xW p l e rm s m args below meth c E maxL (xQ E rm below args s o zr) rm.cells rm.slots 0 (lv_args 0 vs) [] z) : xM l y (ws_ y cc maxL ret) rm E z vs o zr := by
  intro hok sz
  refine Met.ofW (cc := cc) (maxL := maxL) (ret := ret) hy rfl ?_
  intro p e s m args below meth c s₁ B hml hv
  obtain ⟨rfl, hsz, hP, hK, hG⟩ := hv
  have hts := atoms_spec (ws := ws_ y cc maxL ret) B.pre
  have hts : ∀ w ∈ lw_all, w.before _ s = true := fun w h => hts w (List.mem_cons_of_mem _ h)
  have hown : s.vm.findClass own = some m.cls := by rw [← hc]; exact findClass_of_methodNamed B.named
  subst hsz
  have hl := lv_entry vs (n := maxL) hlen
  rw [lg_entry_eq]
  have h0 := body p e s m _ below meth c ⟨B.exec, B.bytes, B.returns, B.notSynchronized, hml, hown, hts, hK, hok, hG⟩ s.heap [] 0 0 _ hP va_S.rf ⟨by rw [Nat.zero_add]; exact Nat.le_refl _, by rw [Nat.zero_add]; exact Nat.le_refl _⟩ hl
  exact h0
section XB
variable {p : Program} {l : Launch} {e : Env} {R : Room} {s : State} {m : MethodId} {args : Array Value} {below : List Frame} {meth : Method} {c : Code} {H : Heap} {locs : List Loc} {cells slots rc rs : Nat} {Q : State → Prop} {E : XE} {own : String} {cc : ByteArray} {nL : Nat} {rt : Option FieldType} {z : XS} {ls : Array Slot} {pc : Nat} {rest : List Value}
/-- behind a call's run -/
theorem x_back {mc ms : Nat} {g : JFrame} {st : List Value} {a : Array Value} {o : Option Value} {zr : XS} (hr : va_Run p l e R s m args below meth c H locs cells slots mc ms (F0 m pc ls st) rest (xQc E o zr H.size a) (xF E H.size)) (hS : va_S (xF E s.heap.size) s.heap H locs)
    (kk : ∀ (H1 : Heap) (locs1 : List Loc), va_P E.1 E.2.1 (xw E zr) H1 → va_S (xF E s.heap.size) s.heap H1 locs1 → W p l e R s m args below meth c H1 locs1 (cells + mc) (slots + ms) Q (F0 m (pc + 3) ls (o.toList ++ rest))) : W p l e R s m args below meth c H locs cells slots Q (F0 m pc ls st) := by
  intro T hT X
  obtain ⟨v, st₀, t, T', L, h0, X', hL, e1, e2, ⟨hv, hp, hz, hk⟩, sg⟩ := hr T hT X
  cases hv
  rw [h0] at hz hk
  have hm : ∀ q, xF E H.size q → xF E s.heap.size q := xF_mono hS.1
  obtain ⟨t2, a1, b1⟩ := kk T'.heap (locs ++ L) (by rw [e1]; exact hp) ⟨Nat.le_trans hS.1 (by rw [e1]; exact hz), fun q h1 h2 => by rw [e1, hk q (Nat.lt_of_lt_of_le h1 hS.1) (fun w => h2 (hm q w))]; exact hS.2.1 q h1 h2, fun q hq => by
      rcases List.mem_append.mp hq with h | h
      · exact hS.2.2 q h
      · exact hm _ (hL q h)⟩ T' rfl X'
  exact ⟨t2, sg t2 a1, b1⟩
theorem x_callV {y : MethodName} {bytes : ByteArray} {maxL n index : Nat} {ret : Option FieldType} {rm : Room} {o : Option Value} {zr : XS} {st : List Value} {C : String} {T : u_T} {N q0 ci : Nat} {fs : List Value} (rc1 rs1 : Nat) (As : List Value) (b : Nat) (hC : xC E own cc nL rt p s m args meth c) (hP : va_P E.1 E.2.1 (xw E z) H) (hS : va_S (xF E s.heap.size) s.heap H locs) (hB : cells + rc ≤ R.cells ∧ slots + rs ≤ R.slots) (hls : ls.size = nL) (hM : xM l y (ws_ y bytes maxL ret) rm E z (.ref b :: As) o zr)
    (hci : E.2.1[ci]? = some (C, T, N)) (hq0 : (xw E z)[q0]? = some (b, .inr (ci, fs)))
    (cw : CallW R s args own C index y bytes maxL ret (ws_ y bytes maxL ret) rm rm.cells rm.slots n) (hst : st = As.reverse ++ .ref b :: rest) (hn : As.length = n) (hroom : 2 * (F0 m pc ls st).monitorRoom + (rest.map fun v => v.category).sum ≤ 8) (hrem : rm.cells + rc1 ≤ rc ∧ rm.slots + rs1 ≤ rs) (hdg : decode cc pc = .ok (.invokevirtual index, 3))
    (kk : ∀ (H1 : Heap) (locs1 : List Loc) (c1 n1 : Nat), va_P E.1 E.2.1 (xw E zr) H1 → va_S (xF E s.heap.size) s.heap H1 locs1 → (c1 + rc1 ≤ R.cells ∧ n1 + rs1 ≤ R.slots) → W p l e R s m args below meth c H1 locs1 c1 n1 Q (F0 m (pc + 3) ls (o.toList ++ rest))) : W p l e R s m args below meth c H locs cells slots Q (F0 m pc ls st) := by
  obtain ⟨hx, hb, hr, hlocks, hml, hown, hts, hK, hok, hG⟩ := hC
  obtain ⟨hB1, hB2⟩ := hB
  obtain ⟨hr1, hr2⟩ := hrem
  have hr := va_runV (l := l) (e := e) (R := R) (below := below) (meth := meth) (locs := locs) (cells := cells) (slots := slots) (g := F0 m pc ls st) (Ts := lw_all) (rest := rest) ⟨hx, hb, hml, hown, hts⟩ (hM hok H.size) cw ⟨xPc_blind E z H.size _, va_recv hK hP (ci := ci) (q0 := q0) hci hq0, fun U hU hW => ⟨rfl, by rw [hU], by rw [hU]; exact hP, va_K.moved hW.alike hK, xG_kept hok hG hS hW hU⟩⟩ rfl hn hls hst hroom hdg ⟨by omega, by omega⟩
  exact x_back (g := F0 m pc ls st) hr hS (fun H1 locs1 h1 h2 => kk H1 locs1 _ _ h1 h2 ⟨by omega, by omega⟩)
theorem x_callS {y : MethodName} {bytes : ByteArray} {maxL n index : Nat} {ret : Option FieldType} {rm : Room} {o : Option Value} {zr : XS} {st : List Value} (rc1 rs1 : Nat) (As : List Value) (hC : xC E own cc nL rt p s m args meth c) (hP : va_P E.1 E.2.1 (xw E z) H) (hS : va_S (xF E s.heap.size) s.heap H locs) (hB : cells + rc ≤ R.cells ∧ slots + rs ≤ R.slots) (hls : ls.size = nL) (hM : xM l y (ws_ y bytes maxL ret) rm E z As o zr)
    (cw : CallB R s args own index y bytes maxL ret (ws_ y bytes maxL ret) rm rm.cells rm.slots n ∧ (Cond.static y).before args s = true) (hst : st = As.reverse ++ rest) (hn : As.length = n) (hroom : 2 * (F0 m pc ls st).monitorRoom + (rest.map fun v => v.category).sum ≤ 8) (hrem : rm.cells + rc1 ≤ rc ∧ rm.slots + rs1 ≤ rs) (hdg : decode cc pc = .ok (.invokestatic index, 3))
    (kk : ∀ (H1 : Heap) (locs1 : List Loc) (c1 n1 : Nat), va_P E.1 E.2.1 (xw E zr) H1 → va_S (xF E s.heap.size) s.heap H1 locs1 → (c1 + rc1 ≤ R.cells ∧ n1 + rs1 ≤ R.slots) → W p l e R s m args below meth c H1 locs1 c1 n1 Q (F0 m (pc + 3) ls (o.toList ++ rest))) : W p l e R s m args below meth c H locs cells slots Q (F0 m pc ls st) := by
  obtain ⟨hx, hb, hr, hlocks, hml, hown, hts, hK, hok, hG⟩ := hC
  obtain ⟨hB1, hB2⟩ := hB
  obtain ⟨hr1, hr2⟩ := hrem
  have hr := va_runS (l := l) (e := e) (R := R) (below := below) (meth := meth) (locs := locs) (cells := cells) (slots := slots) (g := F0 m pc ls st) (Ts := lw_all) (rest := rest) ⟨hx, hb, hml, hown, hts⟩ (hM hok H.size) cw ⟨xPc_blind E z H.size _, fun U hU hW => ⟨rfl, by rw [hU], by rw [hU]; exact hP, va_K.moved hW.alike hK, xG_kept hok hG hS hW hU⟩⟩ rfl hn hls hst hroom hdg ⟨by omega, by omega⟩
  exact x_back (g := F0 m pc ls st) hr hS (fun H1 locs1 h1 h2 => kk H1 locs1 _ _ h1 h2 ⟨by omega, by omega⟩)
/-- a private static method of a nest mate -/
theorem x_callSN {y : MethodName} {host : String} {bytes : ByteArray} {maxL n index : Nat} {ret : Option FieldType} {rm : Room} {o : Option Value} {zr : XS} {st : List Value} (rc1 rs1 : Nat) (As : List Value) (hC : xC E own cc nL rt p s m args meth c) (hP : va_P E.1 E.2.1 (xw E z) H) (hS : va_S (xF E s.heap.size) s.heap H locs) (hB : cells + rc ≤ R.cells ∧ slots + rs ≤ R.slots) (hls : ls.size = nL) (hM : xM l y (ws_ y bytes maxL ret) rm E z As o zr)
    (cw : va_CN R s args own index y host bytes maxL ret (ws_ y bytes maxL ret) rm rm.cells rm.slots n ∧ (Cond.static y).before args s = true ∧ True) (hst : st = As.reverse ++ rest) (hn : As.length = n) (hroom : 2 * (F0 m pc ls st).monitorRoom + (rest.map fun v => v.category).sum ≤ 8) (hrem : rm.cells + rc1 ≤ rc ∧ rm.slots + rs1 ≤ rs) (hdg : decode cc pc = .ok (.invokestatic index, 3))
    (kk : ∀ (H1 : Heap) (locs1 : List Loc) (c1 n1 : Nat), va_P E.1 E.2.1 (xw E zr) H1 → va_S (xF E s.heap.size) s.heap H1 locs1 → (c1 + rc1 ≤ R.cells ∧ n1 + rs1 ≤ R.slots) → W p l e R s m args below meth c H1 locs1 c1 n1 Q (F0 m (pc + 3) ls (o.toList ++ rest))) : W p l e R s m args below meth c H locs cells slots Q (F0 m pc ls st) := by
  obtain ⟨hx, hb, hr, hlocks, hml, hown, hts, hK, hok, hG⟩ := hC
  obtain ⟨hB1, hB2⟩ := hB
  obtain ⟨hr1, hr2⟩ := hrem
  have hr := va_runSN (l := l) (e := e) (R := R) (below := below) (meth := meth) (locs := locs) (cells := cells) (slots := slots) (g := F0 m pc ls st) (Ts := lw_all) (rest := rest) ⟨hx, hb, hml, hown, hts⟩ (hM hok H.size) cw ⟨xPc_blind E z H.size _, fun U hU hW => ⟨rfl, by rw [hU], by rw [hU]; exact hP, va_K.moved hW.alike hK, xG_kept hok hG hS hW hU⟩⟩ rfl hn hls hst hroom hdg ⟨by omega, by omega⟩
  exact x_back (g := F0 m pc ls st) hr hS (fun H1 locs1 h1 h2 => kk H1 locs1 _ _ h1 h2 ⟨by omega, by omega⟩)
theorem x_ret {o : Option Value} (hS : va_S (xF E s.heap.size) s.heap H locs) (hP : va_P E.1 E.2.1 (xw E z) H) : ∀ t : State, t.heap = H → s.WarmedH t.vm → xQc E o z s.heap.size args s (.returned o) t := fun t ht hW => ⟨rfl, by rw [ht]; exact hP, hS.F ht⟩
theorem x_iret {v : Int32} (hC : xC E own cc nL (some .int) p s m args meth c) (hP : va_P E.1 E.2.1 (xw E z) H) (hS : va_S (xF E s.heap.size) s.heap H locs) (hB : cells + rc ≤ R.cells ∧ slots + rs ≤ R.slots) (hdg : decode cc pc = .ok (.ireturn, 1)) : W p l e R s m args below meth c H locs cells slots (xQ E R below args s (some (.int v)) z) (F0 m pc ls [.int v]) := by
  obtain ⟨hx, hb, hr, hlocks, -⟩ := hC
  exact W.widen (Nat.le_trans (Nat.le_add_right _ _) hB.1) (Nat.le_trans (Nat.le_add_right _ _) hB.2) (W.iret hx hb hr (x_ret hS hP) hS.2.2 hdg)
theorem x_zret {v : Int32} (hC : xC E own cc nL (some .boolean) p s m args meth c) (hP : va_P E.1 E.2.1 (xw E z) H) (hS : va_S (xF E s.heap.size) s.heap H locs) (hB : cells + rc ≤ R.cells ∧ slots + rs ≤ R.slots) (hv : v &&& 1 = v) (hdg : decode cc pc = .ok (.ireturn, 1)) : W p l e R s m args below meth c H locs cells slots (xQ E R below args s (some (.int v)) z) (F0 m pc ls [.int v]) := by
  obtain ⟨hx, hb, hr, hlocks, -⟩ := hC
  exact W.widen (Nat.le_trans (Nat.le_add_right _ _) hB.1) (Nat.le_trans (Nat.le_add_right _ _) hB.2) (W.zret hx hb hr (by show Value.int (v &&& 1) = _; rw [hv]) (x_ret hS hP) hS.2.2 hdg)
theorem x_lret {v : Int64} (hC : xC E own cc nL (some .long) p s m args meth c) (hP : va_P E.1 E.2.1 (xw E z) H) (hS : va_S (xF E s.heap.size) s.heap H locs) (hB : cells + rc ≤ R.cells ∧ slots + rs ≤ R.slots) (hdg : decode cc pc = .ok (.lreturn, 1)) : W p l e R s m args below meth c H locs cells slots (xQ E R below args s (some (.long v)) z) (F0 m pc ls [.long v]) := by
  obtain ⟨hx, hb, hr, hlocks, -⟩ := hC
  exact W.widen (Nat.le_trans (Nat.le_add_right _ _) hB.1) (Nat.le_trans (Nat.le_add_right _ _) hB.2) (W.lret hx hb hr (x_ret hS hP) hS.2.2 hdg)
theorem x_vret (hC : xC E own cc nL none p s m args meth c) (hP : va_P E.1 E.2.1 (xw E z) H) (hS : va_S (xF E s.heap.size) s.heap H locs) (hB : cells + rc ≤ R.cells ∧ slots + rs ≤ R.slots) (hdg : decode cc pc = .ok (.return_, 1)) : W p l e R s m args below meth c H locs cells slots (xQ E R below args s none z) (F0 m pc ls []) := by
  obtain ⟨hx, hb, hr, hlocks, -⟩ := hC
  exact W.widen (Nat.le_trans (Nat.le_add_right _ _) hB.1) (Nat.le_trans (Nat.le_add_right _ _) hB.2) (W.vret hx hb hr (x_ret hS hP) hS.2.2 hdg)
theorem x_get {ix : Nat} (hC : xC E own cc nL rt p s m args meth c) (hP : va_P E.1 E.2.1 (xw E z) H) (q0 ci k : Nat) {a : Nat} {fs : List Value} {C : String} {T : u_T} {N : Nat} (hin : ∀ w ∈ u_ws C T N, w ∈ lw_all) (hq0 : (xw E z)[q0]? = some (a, .inr (ci, fs))) (hci : E.2.1[ci]? = some (C, T, N)) (hk : k < N) {v : Value} (hlink : Cond.fieldLink own ix C (T k).2.1 (T k).2.2.1 ∈ lw_all) (hsame : (T k).1 = C) (hv : fs[k]? = some v) (hdg : decode cc pc = .ok (.getfield ix, 3))
    (kk : W p l e R s m args below meth c H locs cells slots Q (F0 m (pc + 3) ls (v :: rest))) : W p l e R s m args below meth c H locs cells slots Q (F0 m pc ls (.ref a :: rest)) := by
  obtain ⟨hx, hb, hr, hlocks, hml, hown, hts, hK, hok, hG⟩ := hC
  exact va_get (D := E.1) (cl := E.2.1) (ci := ci) (v := v) (C := C) (T := T) (N := N) hx hb hts hin hown hK hP q0 hq0 hci k hk (hts _ hlink) (fun _ h9 => by rw [← hsame]; exact h9) hv hdg kk
theorem x_getN {ix : Nat} {host : String} (hC : xC E own cc nL rt p s m args meth c) (hP : va_P E.1 E.2.1 (xw E z) H) (q0 ci k : Nat) {a : Nat} {fs : List Value} {C : String} {T : u_T} {N : Nat} (hin : ∀ w ∈ u_ws C T N, w ∈ lw_all) (hq0 : (xw E z)[q0]? = some (a, .inr (ci, fs))) (hci : E.2.1[ci]? = some (C, T, N)) (hk : k < N) {v : Value} (hlink : xNest s → va_Nw (Cond.fieldLinkNest own ix C (T k).2.1 (T k).2.2.1 host) s) (hsame : (T k).1 = C) (hv : fs[k]? = some v) (hdg : decode cc pc = .ok (.getfield ix, 3))
    (kk : W p l e R s m args below meth c H locs cells slots Q (F0 m (pc + 3) ls (v :: rest))) : W p l e R s m args below meth c H locs cells slots Q (F0 m pc ls (.ref a :: rest)) := by
  obtain ⟨hx, hb, hr, hlocks, hml, hown, hts, hK, hok, hG⟩ := hC
  exact va_getN (D := E.1) (cl := E.2.1) (ci := ci) (v := v) (C := C) (T := T) (N := N) hx hb hts hin hown hK hP q0 hq0 hci k hk (va_Nw.use rfl (hlink hG.1)) (fun _ h9 => by rw [← hsame]; exact h9) hv hdg kk
theorem x_putI {ix : Nat} {v : Int32} {z1 : XS} (hC : xC E own cc nL rt p s m args meth c) (hP : va_P E.1 E.2.1 (xw E z) H) (hS : va_S (xF E s.heap.size) s.heap H locs) (k : Nat) (hk : k < 11) (ez : z1 = xI z k v) (hlink : Cond.fieldLink own ix RX0 (TX0 k).2.1 (TX0 k).2.2.1 ∈ lw_all) (hsame : (TX0 k).1 = RX0) (hfin : (TX0 k).2.2.2 = false) (hd : parseFieldDescriptor (TX0 k).2.2.1 = some .int) (hset : (xfs E.2.2.1 z).set k (.int v) = xfs E.2.2.1 (xI z k v)) (hdg : decode cc pc = .ok (.putfield ix, 3))
    (kk : ∀ (H1 : Heap) (locs1 : List Loc), va_P E.1 E.2.1 (xw E z1) H1 → va_S (xF E s.heap.size) s.heap H1 locs1 → W p l e R s m args below meth c H1 locs1 cells slots Q (F0 m (pc + 3) ls rest)) : W p l e R s m args below meth c H locs cells slots Q (F0 m pc ls (.int v :: .ref (E.2.2.1 0) :: rest)) := by
  subst ez
  obtain ⟨hx, hb, hr, hlocks, hml, hown, hts, hK, hok, hG⟩ := hC
  refine va_put (D := E.1) (cl := E.2.1) (ci := 0) (v := .int v) (ty := .int) (C := RX0) (T := TX0) (N := 11) hx hb hts in_X0 tyX0 tyX0_ok nmX0 hown hK hP (xw_D E z _ hok.1) hS 0 (xw_get E z (by decide)) (hok.2.1 0 _ rfl) k hk (hts _ hlink) (fun _ h9 => by rw [← hsame]; exact h9) hfin hd rfl rfl (by exact hk) hdg (fun H1 locs1 hP1 _ hS1 => kk H1 locs1 ?_ hS1)
  rw [hset] at hP1
  have e := xw_set E z (xI z k v) (k := 0) (by decide) (.inr (0, xfs E.2.2.1 (xI z k v))) rfl (fun j hj => xcont_I E z k v j hj)
  rw [← e]
  exact hP1
theorem x_iald {k n : Nat} (hC : xC E own cc nL rt p s m args meth c) (hP : va_P E.1 E.2.1 (xw E z) H) (hk : xint k n) {i : Int32} (hin : ¬ ib i n) (hdg : decode cc pc = .ok (.iaload, 1))
    (kk : W p l e R s m args below meth c H locs cells slots Q (F0 m (pc + 1) ls (.int (z.2.1 k i.toNatClampNeg) :: rest))) : W p l e R s m args below meth c H locs cells slots Q (F0 m pc ls (.int i :: .ref (E.2.2.1 k) :: rest)) := by
  obtain ⟨hx, hb, hr, hlocks, hml, hown, hts, hK, hok, hG⟩ := hC
  exact va_iald hx hb hK hP k 0 (by rw [xw_get E z hk.1, xcont_int hk]) rfl hin hdg kk
theorem x_iast {k n : Nat} (hC : xC E own cc nL rt p s m args meth c) (hP : va_P E.1 E.2.1 (xw E z) H) (hS : va_S (xF E s.heap.size) s.heap H locs) (hk : xint k n) {i x : Int32} {z1 : XS} (hin : ¬ ib i n) (ez : z1 = xA z k (upd (z.2.1 k) i.toNatClampNeg x)) (hdg : decode cc pc = .ok (.iastore, 1))
    (kk : ∀ (H1 : Heap) (locs1 : List Loc), va_P E.1 E.2.1 (xw E z1) H1 → va_S (xF E s.heap.size) s.heap H1 locs1 → W p l e R s m args below meth c H1 locs1 cells slots Q (F0 m (pc + 1) ls rest)) : W p l e R s m args below meth c H locs cells slots Q (F0 m pc ls (.int x :: .int i :: .ref (E.2.2.1 k) :: rest)) := by
  subst ez
  obtain ⟨hx, hb, hr, hlocks, hml, hown, hts, hK, hok, hG⟩ := hC
  refine va_iast hx hb hK hP (xw_D E z _ hok.1) hS k 0 (by rw [xw_get E z hk.1, xcont_int hk]) rfl hin hdg (fun H1 locs1 hP1 _ hS1 => kk H1 locs1 ?_ hS1)
  rw [xw_set E z (xA z k (upd (z.2.1 k) i.toNatClampNeg x)) hk.1 _ (by rw [xcont_int hk]; simp [xA, va_up]) (fun j hj => xcont_A E z k _ j hj)] at hP1
  exact hP1
theorem x_bast {i x : Int32} {z1 : XS} (hC : xC E own cc nL rt p s m args meth c) (hP : va_P E.1 E.2.1 (xw E z) H) (hS : va_S (xF E s.heap.size) s.heap H locs) (hin : ¬ ib i 300) (ez : z1 = xA z 3 (upd (z.2.1 3) i.toNatClampNeg x.toInt8.toInt32)) (hdg : decode cc pc = .ok (.bastore, 1))
    (kk : ∀ (H1 : Heap) (locs1 : List Loc), va_P E.1 E.2.1 (xw E z1) H1 → va_S (xF E s.heap.size) s.heap H1 locs1 → W p l e R s m args below meth c H1 locs1 cells slots Q (F0 m (pc + 1) ls rest)) : W p l e R s m args below meth c H locs cells slots Q (F0 m pc ls (.int x :: .int i :: .ref (E.2.2.1 3) :: rest)) := by
  subst ez
  obtain ⟨hx, hb, hr, hlocks, hml, hown, hts, hK, hok, hG⟩ := hC
  refine va_bast hx hb hK hP (xw_D E z _ hok.1) hS 3 1 (xw_get E z (by decide)) rfl hin hdg (fun H1 locs1 hP1 _ hS1 => kk H1 locs1 ?_ hS1)
  have e := xw_set E z (xA z 3 (upd (z.2.1 3) i.toNatClampNeg x.toInt8.toInt32)) (k := 3) (by decide) (.inl (E.2.2.2.1 1, 300, .inl (upd (z.2.1 3) i.toNatClampNeg x.toInt8.toInt32))) rfl (fun j hj => xcont_A E z 3 _ j hj)
  rw [← e]
  exact hP1
/-- a row of an array of rows -/
theorem x_aald {k b n w : Nat} (hC : xC E own cc nL rt p s m args meth c) (hP : va_P E.1 E.2.1 (xw E z) H) (hk : xout k b n w) {i : Int32} (hin : ¬ ib i n) (hdg : decode cc pc = .ok (.aaload, 1))
    (kk : W p l e R s m args below meth c H locs cells slots Q (F0 m (pc + 1) ls (.ref (E.2.2.1 (b + i.toNatClampNeg)) :: rest))) : W p l e R s m args below meth c H locs cells slots Q (F0 m pc ls (.int i :: .ref (E.2.2.1 k) :: rest)) := by
  obtain ⟨hx, hb, hr, hlocks, hml, hown, hts, hK, hok, hG⟩ := hC
  have hlt : i.toNatClampNeg < n := Nat.not_le.mp fun q => hin (Or.inr q)
  have ha : (xw E z)[k]? = some (E.2.2.1 k, .inl (E.2.2.2.1 2, n, .inr (.inr (.inr (.inr (fun i => some (E.2.2.1 (b + i)))))))) := by rw [xw_get E z hk.1, xcont_out hk]
  exact W.aald (v := .ref (E.2.2.1 (b + i.toNatClampNeg))) (ty := .array .int) hx hb (hP k _ ha) ((hK.2 2 _ rfl).1 n (fun j => va_rf (some (E.2.2.1 (b + j))))) rfl (fun q => by cases q) (by show ¬ (i < 0 ∨ (arrV _ _ _).slots.size ≤ _); rw [arrV_size]; exact hin) (by show (arrV _ _ _).slots[_]? = _; rw [arrV_read _ _ hlt]; rfl) rfl rfl hdg kk
/-- a text of the row of texts -/
theorem x_tald {k : Nat} (hC : xC E own cc nL rt p s m args meth c) (hP : va_P E.1 E.2.1 (xw E z) H) (hk : k < 144 ∧ xkind k = 4) {i : Int32} {t : Nat} (hin : ¬ ib i 4) (ht : z.2.2 k i.toNatClampNeg = some t) (hdg : decode cc pc = .ok (.aaload, 1))
    (kk : W p l e R s m args below meth c H locs cells slots Q (F0 m (pc + 1) ls (.ref t :: rest))) : W p l e R s m args below meth c H locs cells slots Q (F0 m pc ls (.int i :: .ref (E.2.2.1 k) :: rest)) := by
  obtain ⟨hx, hb, hr, hlocks, hml, hown, hts, hK, hok, hG⟩ := hC
  have a0 : k ≠ 0 := fun e => by have := hk.2; subst e; exact absurd this (by decide)
  have a1 : k ≠ 1 := fun e => by have := hk.2; subst e; exact absurd this (by decide)
  have a2 : k ≠ 2 := fun e => by have := hk.2; subst e; exact absurd this (by decide)
  have ha : (xw E z)[k]? = some (E.2.2.1 k, .inl (E.2.2.2.1 3, 4, .inr (.inr (.inr (.inr (z.2.2 k)))))) := by
    rw [xw_get E z hk.1]
    unfold xcont
    rw [if_neg a0, if_neg a1, if_neg a2, if_neg (by rw [hk.2]; decide), if_pos hk.2]
  refine va_aldq hx hb hK hP k 3 ha rfl hin hdg ?_
  rw [ht]
  exact kk
theorem x_copy {k0 k1 n0 n1 ix : Nat} {sp dp n : Int32} {z1 : XS} (hC : xC E own cc nL rt p s m args meth c) (hP : va_P E.1 E.2.1 (xw E z) H) (hS : va_S (xF E s.heap.size) s.heap H locs) (hls : ls.size = nL) (hk0 : xint k0 n0) (hk1 : xint k1 n1) (hlink : Cond.methodLink own ix arraycopyName ∈ lw_all) (h1 : ¬ sp < 0) (h2 : ¬ dp < 0) (h3 : ¬ n < 0) (h4 : sp.toNatClampNeg + n.toNatClampNeg ≤ n0) (h5 : dp.toNatClampNeg + n.toNatClampNeg ≤ n1) (ez : z1 = xA z k1 (va_cpy (z.2.1 k0) (z.2.1 k1) sp.toNatClampNeg dp.toNatClampNeg n.toNatClampNeg))
    (hframes : 1 ≤ R.frames) (hlocals : (rest.map fun v => v.category).sum + (nativeFrameWords "java/lang/System" "arraycopy" 5 + 11) ≤ R.locals) (hdg : decode cc pc = .ok (.invokestatic ix, 3))
    (kk : ∀ (H1 : Heap) (locs1 : List Loc), va_P E.1 E.2.1 (xw E z1) H1 → va_S (xF E s.heap.size) s.heap H1 locs1 → W p l e R s m args below meth c H1 locs1 cells slots Q (F0 m (pc + 3) ls rest)) : W p l e R s m args below meth c H locs cells slots Q (F0 m pc ls (.int n :: .int dp :: .ref (E.2.2.1 k1) :: .int sp :: .ref (E.2.2.1 k0) :: rest)) := by
  subst ez
  obtain ⟨hx, hb, hr, hlocks, hml, hown, hts, hK, hok, hG⟩ := hC
  refine va_copyi hx hb (by rw [hml, hls]) hown (hts _ hlink) (hts _ q228) (hts _ q227) (hts _ q124) hK hP (xw_D E z _ hok.1) hS k0 k1 0 0 (by rw [xw_get E z hk0.1, xcont_int hk0]) (by rw [xw_get E z hk1.1, xcont_int hk1]) rfl rfl rfl h1 h2 h3 h4 h5 (fun _ _ => rfl) hframes hlocals hdg (fun H1 locs1 hP1 _ hS1 => kk H1 locs1 ?_ hS1)
  rw [xw_set E z (xA z k1 (va_cpy (z.2.1 k0) (z.2.1 k1) sp.toNatClampNeg dp.toNatClampNeg n.toNatClampNeg)) hk1.1 _ (by rw [xcont_int hk1]; simp [xA, va_up]) (fun j hj => xcont_A E z k1 _ j hj)] at hP1
  exact hP1
theorem x_ilen {k n : Nat} (hC : xC E own cc nL rt p s m args meth c) (hP : va_P E.1 E.2.1 (xw E z) H) (hk : xint k n) {v : Int32} (hv : Int32.ofNat n = v) (hdg : decode cc pc = .ok (.arraylength, 1))
    (kk : W p l e R s m args below meth c H locs cells slots Q (F0 m (pc + 1) ls (.int v :: rest))) : W p l e R s m args below meth c H locs cells slots Q (F0 m pc ls (.ref (E.2.2.1 k) :: rest)) := by
  obtain ⟨hx, hb, hr, hlocks, hml, hown, hts, hK, hok, hG⟩ := hC
  exact va_alen hx hb hK hP k 0 (by rw [xw_get E z hk.1, xcont_int hk]) rfl hv hdg kk
theorem x_olen {k b n w : Nat} (hC : xC E own cc nL rt p s m args meth c) (hP : va_P E.1 E.2.1 (xw E z) H) (hk : xout k b n w) {v : Int32} (hv : Int32.ofNat n = v) (hdg : decode cc pc = .ok (.arraylength, 1))
    (kk : W p l e R s m args below meth c H locs cells slots Q (F0 m (pc + 1) ls (.int v :: rest))) : W p l e R s m args below meth c H locs cells slots Q (F0 m pc ls (.ref (E.2.2.1 k) :: rest)) := by
  obtain ⟨hx, hb, hr, hlocks, hml, hown, hts, hK, hok, hG⟩ := hC
  exact va_alen hx hb hK hP k 2 (by rw [xw_get E z hk.1, xcont_out hk]) rfl hv hdg kk
/-- a row of texts copied whole -/
theorem x_tcopy {k0 k1 ix : Nat} {z1 : XS} (hC : xC E own cc nL rt p s m args meth c) (hP : va_P E.1 E.2.1 (xw E z) H) (hS : va_S (xF E s.heap.size) s.heap H locs) (hls : ls.size = nL) (hk0 : k0 < 144 ∧ xkind k0 = 4) (hk1 : k1 < 144 ∧ xkind k1 = 4) (hT : xTok E.2.2.2.2.2 z k0) (hlink : Cond.methodLink own ix arraycopyName ∈ lw_all) (ez : z1 = xT z k1 (va_cpy (z.2.2 k0) (z.2.2 k1) 0 0 4))
    (hframes : 1 ≤ R.frames) (hlocals : (rest.map fun v => v.category).sum + (nativeFrameWords "java/lang/System" "arraycopy" 5 + 11) ≤ R.locals) (hdg : decode cc pc = .ok (.invokestatic ix, 3))
    (kk : ∀ (H1 : Heap) (locs1 : List Loc), va_P E.1 E.2.1 (xw E z1) H1 → va_S (xF E s.heap.size) s.heap H1 locs1 → W p l e R s m args below meth c H1 locs1 cells slots Q (F0 m (pc + 3) ls rest)) : W p l e R s m args below meth c H locs cells slots Q (F0 m pc ls (.int 4 :: .int 0 :: .ref (E.2.2.1 k1) :: .int 0 :: .ref (E.2.2.1 k0) :: rest)) := by
  subst ez
  obtain ⟨hx, hb, hr, hlocks, hml, hown, hts, hK, hok, hG⟩ := hC
  have ct : ∀ (z : XS) (k : Nat), k < 144 ∧ xkind k = 4 → xcont E z k = .inl (E.2.2.2.1 3, 4, .inr (.inr (.inr (.inr (z.2.2 k))))) := by
    intro z k hk
    have a0 : k ≠ 0 := fun e => by have := hk.2; subst e; exact absurd this (by decide)
    have a1 : k ≠ 1 := fun e => by have := hk.2; subst e; exact absurd this (by decide)
    have a2 : k ≠ 2 := fun e => by have := hk.2; subst e; exact absurd this (by decide)
    unfold xcont
    rw [if_neg a0, if_neg a1, if_neg a2, if_neg (by rw [hk.2]; decide), if_pos hk.2]
  refine va_copyq (C := RX4) (E0 := "RailingsCount$Text") (E1 := "RailingsCount$Text") hx hb (by rw [hml, hls]) hown (hts _ hlink) (hts _ q228) (hts _ q227) (hts _ q124) hK hP (xw_D E z _ hok.1) hS k0 k1 3 3 (by rw [xw_get E z hk0.1, ct z k0 hk0]) (by rw [xw_get E z hk1.1, ct z k1 hk1]) rfl rfl (by decide) (by decide) (by decide) (by decide) (by decide) (fun i hi y hy => ?_) (fun comp c0 h1 h2 => ?_) hframes hlocals hdg (fun H1 locs1 hP1 _ hS1 => kk H1 locs1 ?_ hS1)
  · have e9 : (0 : Int32).toNatClampNeg + i = i := by show 0 + i = i; omega
    rw [e9] at hy
    obtain ⟨la, dl, n, lw, g1, g2, -⟩ := hG.2.1 y (hT i y hi hy)
    have g4 := g2.kept (H1 := H) (hS.2.1 y g2.lt (xF_P hok g2.lt g1))
    obtain ⟨cell, r, e1, q1, q2, q3, q4⟩ := g4
    refine ⟨cell, q1, q3, ?_⟩
    have hk4 := hK.1 2 _ (hok.2.1 2 _ rfl)
    rw [q2]
    exact hk4.2.1
  · have e : comp = c0 := Option.some.inj (h1.symm.trans h2)
    subst e
    have hk4 := hK.1 2 _ (hok.2.1 2 _ rfl)
    have e2 : E.1.1 2 = comp := Option.some.inj (hk4.2.1.symm.trans h1)
    rw [← e2]
    exact va_assign hk4.2
  rw [xw_set E z (xT z k1 (va_cpy (z.2.2 k0) (z.2.2 k1) 0 0 4)) hk1.1 _ (by rw [ct _ k1 hk1]; simp [xT, va_up]) (fun j hj => xcont_T E z k1 _ j hj)] at hP1
  exact hP1
end XB
theorem xo_7 : xout 7 26 30 30 := ⟨by decide, rfl, rfl, rfl, by decide +kernel⟩
theorem xo_13 : xout 13 56 6 3 := ⟨by decide, rfl, rfl, rfl, by decide +kernel⟩
theorem xo_14 : xout 14 62 8 3 := ⟨by decide, rfl, rfl, rfl, by decide +kernel⟩
theorem xo_15 : xout 15 70 30 190 := ⟨by decide, rfl, rfl, rfl, by decide +kernel⟩
theorem xo_22 : xout 22 100 6 3 := ⟨by decide, rfl, rfl, rfl, by decide +kernel⟩
theorem xo_23 : xout 23 106 8 3 := ⟨by decide, rfl, rfl, rfl, by decide +kernel⟩
theorem xo_24 : xout 24 114 30 190 := ⟨by decide, rfl, rfl, rfl, by decide +kernel⟩
/-- a row of an array of rows, as an int array -/
theorem xrow {k b n w : Nat} (h : xout k b n w) {i : Int32} (hi : ¬ ib i n) : xint (b + i.toNatClampNeg) w := h.2.2.2.2 _ (Nat.not_le.mp fun q => hi (Or.inr q))
