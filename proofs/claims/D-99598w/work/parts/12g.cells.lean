/-! methods that make and write single cells: what the statics hold, the contract bM, the rows -/
set_option maxRecDepth 100000
/-- which cells may change since U -/
def bA (E : XE) (U : State) : Nat → Prop := fun q => ¬ (E.2.2.2.2.1 q ∧ q < U.heap.size)
/-- how U lies behind s -/
def bFr (E : XE) (s U : State) : Prop := s.WarmedH U.vm ∧ s.heap.size ≤ U.heap.size ∧ ∀ q, q < s.heap.size → E.2.2.2.2.1 q → U.heap[q]? = s.heap[q]?
theorem bFr.kp {E : XE} {s U : State} (h : bFr E s U) : ∀ a : Nat, a < s.heap.size → ¬ bA E s a → U.heap[a]? = s.heap[a]? := fun a h1 h2 => h.2.2 a h1 (Classical.byContradiction fun h3 => h2 fun h4 => h3 h4.1)
theorem bFr.nw {E : XE} {s U : State} (h : bFr E s U) : ∀ q, bA E U q → bA E s q := fun q h1 h2 => h1 ⟨h2.1, Nat.lt_of_lt_of_le h2.2 h.2.1⟩
def bS (C n d : String) (v : Value) (E : XE) (U : State) : Prop := va_Z C n d v (bA E U) U U.heap
theorem bS.k {C n d : String} {v : Value} {E : XE} {s U : State} (f : bFr E s U) (h : bS C n d v E s) : bS C n d v E U := ((va_Z.moved f.1.alike h).kept f.kp).narrow f.nw
def bSq (C n d : String) (E : XE) (U : State) : Prop := va_Zq C n d (bA E U) U U.heap
theorem bSq.k {C n d : String} {E : XE} {s U : State} (f : bFr E s U) (h : bSq C n d E s) : bSq C n d E U := ((va_Zq.moved f.1.alike h).kept f.kp).narrow f.nw
def bSx (C n d : String) (E : XE) (U : State) : Prop := vx_Zq C n d (bA E U) U U.heap
theorem bSx.k {C n d : String} {E : XE} {s U : State} (f : bFr E s U) (h : bSx C n d E s) : bSx C n d E U := ((vx_Zq.moved f.1.alike h).kept f.kp).narrow f.nw
def bT (ty : FieldType) (t N : Nat) (g : Nat → Value) (E : XE) (U : State) : Prop := va_T ty t N g (bA E U) U U.heap
theorem bT.k {ty : FieldType} {t N : Nat} {g : Nat → Value} {E : XE} {s U : State} (f : bFr E s U) (h : bT ty t N g E s) : bT ty t N g E U := ((va_T.moved f.1.alike h).kept f.kp).narrow f.nw
def bO (C : String) (t : Nat) (E : XE) (U : State) : Prop := va_O C t (bA E U) U U.heap
theorem bO.k {C : String} {t : Nat} {E : XE} {s U : State} (f : bFr E s U) (h : bO C t E s) : bO C t E U := ((va_O.moved f.1.alike h).kept f.kp).narrow f.nw
def bOF (o n d : String) (v : Value) (t : Nat) (E : XE) (U : State) : Prop := va_OF o n d v t (bA E U) U U.heap
theorem bOF.k {o n d : String} {v : Value} {t : Nat} {E : XE} {s U : State} (f : bFr E s U) (h : bOF o n d v t E s) : bOF o n d v t E U := ((va_OF.moved f.1.alike h).kept f.kp).narrow f.nw
/-- the address of the lists' common empty array -/
def bD (E : XE) : Nat := E.2.2.2.1 9
/-- the text of the i-th word; the 26th: the signs -/
def bKs (E : XE) (i : Nat) : Nat := E.2.2.2.1 (20 + i)
/-- its bytes -/
def bVs (E : XE) (i : Nat) : Nat := E.2.2.2.1 (60 + i)
/-- the class object of Object[] -/
def bMi (E : XE) : Nat := E.2.2.2.1 10
/-- the words, and the signs behind them -/
def bWords : List (List Int32) := [[99, 97, 116, 99, 104, 101, 115], [112, 97, 105, 110, 116, 115], [112, 108, 97, 99, 101], [112, 97, 105, 110, 116], [99, 104, 105, 108, 100], [114, 117, 110], [99, 117, 116], [97, 100, 100], [121, 101, 97, 114], [107, 105, 110, 100], [97, 116], [108, 117, 99, 107], [102, 114, 111, 109], [114, 111, 117, 110, 100], [111, 102], [107, 105, 110, 100, 115], [105, 102], [116, 104, 101, 110], [101, 108, 115, 101], [101, 110, 100], [111, 114], [97, 110, 100], [110, 111, 116], [99, 111, 117, 110, 116], [115, 116, 114, 105, 100, 101], [119, 104, 111], [60, 62, 61, 35, 43, 45, 42, 47, 40, 41, 59]]
def bNamed : List Int32 := [208, 202, 209, 203, 223, 224, 211, 225]
/-- the text at a says w -/
def bStr (a v : Nat) (w : List Int32) (E : XE) (U : State) : Prop := bO "java/lang/String" a E U ∧ bOF "java/lang/String" "coder" "B" (.int 0) a E U ∧ bOF "java/lang/String" "value" "[B" (.ref v) a E U ∧ bT .byte v w.length (fun j => .int (w.getD j 0)) E U
theorem bStr.k {a v : Nat} {w : List Int32} {E : XE} {s U : State} (f : bFr E s U) (h : bStr a v w E s) : bStr a v w E U := ⟨h.1.k f, h.2.1.k f, h.2.2.1.k f, h.2.2.2.k f⟩
/-- the classes whose objects go into lists -/
def bCast : List String := [RX6, RX7, RX8, RX9, RX10, RX11, RX12, RX13, RX14, RX15, RX16, RJ15]
def bZ (E : XE) (U : State) : Prop := ∃ (aW aN aC : Nat) (ad : Nat → Nat),
  (bS RJ3 "DEFAULTCAPACITY_EMPTY_ELEMENTDATA" "[Ljava/lang/Object;" (.ref (bD E)) E U ∧ E.2.2.2.2.1 (bD E) ∧ wAr E (bD E) 5 0 (fun _ => none) U.heap) ∧
  (bS RX3 "WORDS" "[Ljava/lang/String;" (.ref aW) E U ∧ bT (.object "java/lang/String") aW 26 (fun i => .ref (bKs E i)) E U) ∧
  (bS RX3 "NAMED" "[I" (.ref aN) E U ∧ bT .int aN 8 (fun i => .int (bNamed.getD i 0)) E U) ∧
  ((∀ i, i < 27 → bStr (bKs E i) (bVs E i) (bWords.getD i []) E U) ∧ vk_R RX3 53 "<>=#+-*/();" (bKs E 26) U) ∧
  (bS "java/lang/String" "COMPACT_STRINGS" "Z" (.int 1) E U ∧ bSq "jdk/internal/util/Preconditions" "SIOOBE_FORMATTER" "Ljava/util/function/BiFunction;" E U) ∧
  (bS "java/lang/Integer$IntegerCache" "high" "I" (.int 127) E U ∧ bS "java/lang/Integer$IntegerCache" "cache" "[Ljava/lang/Integer;" (.ref aC) E U ∧ bT (.object "java/lang/Integer") aC 256 (fun i => .ref (ad i)) E U ∧ ∀ i, i < 256 → E.2.2.2.2.1 (ad i) ∧ wOB E (ad i) 17 [.int (vb_c i)] U.heap) ∧
  (bSx "java/lang/Throwable" "UNASSIGNED_STACK" "[Ljava/lang/StackTraceElement;" E U ∧ bSx "java/lang/Throwable" "SUPPRESSED_SENTINEL" "Ljava/util/List;" E U) ∧
  ((∀ C ∈ bCast, va_Nw (.castable C "java/lang/Object") U) ∧ va_AO "java/lang/Object" U ∧ va_Dc U ∧ va_Mi "[Ljava/lang/Object;" (bMi E) U ∧ va_AO "RailingsCount$Sum" U ∧ va_Nw (.declares (Bundle.init0 Bundle.tN)) U)
theorem bZ.k {E : XE} {s U : State} (f : bFr E s U) (h : bZ E s) : bZ E U := by
  obtain ⟨aW, aN, aC, ad, ⟨d1, d2, d3⟩, ⟨w1, w2⟩, ⟨n1, n2⟩, ⟨s1, s2⟩, ⟨c1, c2⟩, ⟨i1, i2, i3, i4⟩, ⟨t1, t2⟩, ⟨o1, o2, o3, o4, o5⟩⟩ := h
  exact ⟨aW, aN, aC, ad, ⟨d1.k f, d2, d3.kept (f.2.2 _ d3.lt d2)⟩, ⟨w1.k f, w2.k f⟩, ⟨n1.k f, n2.k f⟩, ⟨fun i hi => (s1 i hi).k f, s2.warm f.1⟩, ⟨c1.k f, c2.k f⟩, ⟨i1.k f, i2.k f, i3.k f, fun i hi => ⟨(i4 i hi).1, (i4 i hi).2.kept (f.2.2 _ (i4 i hi).2.lt (i4 i hi).1)⟩⟩, ⟨t1.k f, t2.k f⟩, ⟨fun C hC => va_Nw.warmC f.1 (o1 C hC), o2.moved f.1.alike, o3.moved f.1.alike, o4.moved f.1.alike, o5.1.moved f.1.alike, va_Nw.warmD f.1 o5.2⟩⟩
theorem xNest_moved {s U : State} (hW : s.WarmedH U.vm) (h : xNest s) : xNest U := ⟨fun q hq => va_Nw.warmF hW (h.1 q hq), fun q hq => va_Nw.warmM hW (h.2 q hq)⟩
theorem xNest_same {s U : State} (hv : s.vm = U.vm) (h : xNest s) : xNest U := ⟨fun q hq => va_Nw.same rfl hv (h.1 q hq), fun q hq => va_Nw.same rfl hv (h.2 q hq)⟩
def bG (E : XE) (U : State) : Prop := xNest U ∧ eG U ∧ bZ E U
theorem bG.k {E : XE} {s U : State} (f : bFr E s U) (h : bG E s) : bG E U := ⟨xNest_moved f.1 h.1, eG_moved f.1 h.2.1, h.2.2.k f⟩
theorem bG_blind {E : XE} {U : State} (g : JFrame) (mk : MethodId) (a : Array Value) (h : bG E U) : bG E (U.calling g mk a) := bG.k (s := U) (U := U.calling g mk a) ⟨State.WarmedH.refl U, Nat.le_refl _, fun _ _ _ => rfl⟩ h
/-- which cells a method may change: A's, and the new ones -/
def bW (A : Nat → Prop) (sz : Nat) : Nat → Prop := fun q => A q ∨ sz ≤ q
def bPc (E : XE) (sz : Nat) (vs : List Value) (Cd : Heap → Prop) : Array Value → State → Prop := fun v U => v = vs.toArray ∧ U.heap.size = sz ∧ va_K E.1 E.2.1 (xtys E) U ∧ bG E U ∧ Cd U.heap
theorem bPc_blind (E : XE) (sz : Nat) (vs : List Value) (Cd : Heap → Prop) : FrameBlind (bPc E sz vs Cd) := fun a U g mk q => ⟨q.1, q.2.1, va_K.moved (u := U) (U := U.calling g mk a) (Vm.Alike.refl U.vm) q.2.2.1, bG_blind g mk a q.2.2.2.1, q.2.2.2.2⟩
def bQc (A : Nat → Prop) (sz : Nat) (Po : Option Value → Heap → Prop) : Array Value → State → Outcome → State → Prop := fun _ st oc t => (∃ o, oc = .returned o ∧ Po o t.heap) ∧ va_F (bW A sz) st t
/-- the contract: it returns o with Po, and changes A's cells and new ones alone -/
def bM (l : Launch) (E : XE) (A : Nat → Prop) (y : MethodName) (ws : List Cond) (rm : Room) (vs : List Value) (Cd : Heap → Prop) (Po : Nat → Option Value → Heap → Prop) : Prop := xCl E → (∀ q, A q → ¬ E.2.2.2.2.1 q) → ∀ sz, Met l y ws rm (bPc E sz vs Cd) (bQc A sz (Po sz)) rm.cells rm.slots (bW A sz)
def bC (E : XE) (A : Nat → Prop) (mn own : String) (cc : ByteArray) (nL : Nat) (rt : Option FieldType) (p : Program) (s : State) (m : MethodId) (args : Array Value) (meth : Method) (c : Code) : Prop := eC E own cc nL rt p s m args meth c ∧ bG E s ∧ (∀ q, A q → ¬ E.2.2.2.2.1 q) ∧ meth.name = mn
def bQ (A : Nat → Prop) (R : Room) (below : List Frame) (args : Array Value) (s : State) (Po : Option Value → Heap → Prop) : State → Prop := MQ below (bQc A s.heap.size Po) args s R.cells R.slots (bW A s.heap.size)
theorem b_met {l : Launch} {E : XE} {A : Nat → Prop} {y : MethodName} {mn own : String} {cc : ByteArray} {maxL : Nat} {ret : Option FieldType} {rm : Room} {vs : List Value} {Cd : Heap → Prop} {Po : Nat → Option Value → Heap → Prop} (hy : plainName y.cls = true) (hc : y.cls = own) (hn : y.name = mn) (hlen : (lg_sl vs).length ≤ maxL)
    (body : ∀ (p : Program) (e : Env) (s : State) (m : MethodId) (args : Array Value) (below : List Frame) (meth : Method) (c : Code), bC E A mn own cc maxL ret p s m args meth c → Cd s.heap → ∀ ls : Array Slot, lv_has ls maxL (lv_args 0 vs) → va_S (bW A s.heap.size) s.heap s.heap [] → W p l e rm s m args below meth c s.heap [] 0 0 (bQ A rm below args s (Po s.heap.size)) (F0 m 0 ls [])) : bM l E A y (ws_ y cc maxL ret) rm vs Cd Po := by
  intro hE hA sz
  refine Met.ofW (cc := cc) (maxL := maxL) (ret := ret) hy rfl ?_
  intro p e s m args below meth c s₁ B hml hv
  obtain ⟨rfl, hsz, hK, hG, hCd⟩ := hv
  have hts := atoms_spec (ws := ws_ y cc maxL ret) B.pre
  have hts : ∀ w ∈ lw_all, w.before _ s = true := fun w h => hts w (List.mem_cons_of_mem _ h)
  have hown : s.vm.findClass own = some m.cls := by rw [← hc]; exact findClass_of_methodNamed B.named
  have hin : meth.name = mn := by rw [← hn]; exact (name_of_methodNamed B.named B.method).1
  subst hsz
  have hl := lv_entry vs (n := maxL) hlen
  rw [lg_entry_eq]
  exact body p e s m _ below meth c ⟨⟨⟨B.exec, B.bytes, B.returns, B.notSynchronized, hml, hown, hts⟩, hK, hE, hG.2.1⟩, hG, hA, hin⟩ hCd _ hl va_S.rf
section BB
variable {p : Program} {l : Launch} {e : Env} {R : Room} {s : State} {m : MethodId} {args : Array Value} {below : List Frame} {meth : Method} {c : Code} {H : Heap} {locs : List Loc} {cells slots : Nat} {Q : State → Prop} {E : XE} {A : Nat → Prop} {mn own : String} {cc : ByteArray} {nL : Nat} {rt : Option FieldType} {ls : Array Slot} {pc : Nat} {rest : List Value}
theorem b_fr (hC : bC E A mn own cc nL rt p s m args meth c) (hS : va_S (bW A s.heap.size) s.heap H locs) {U : State} (hU : U.heap = H) (hW : s.WarmedH U.vm) : bFr E s U := ⟨hW, by rw [hU]; exact hS.1, fun q h1 h2 => by rw [hU]; exact hS.2.1 q h1 (fun h => by rcases h with h | h; exact hC.2.2.1 q h h2; omega)⟩
theorem b_Sz (hC : bC E A mn own cc nL rt p s m args meth c) (hS : va_S (bW A s.heap.size) s.heap H locs) : va_S (bA E s) s.heap H locs := ⟨hS.1, fun q h1 h2 => hS.2.1 q h1 (fun h => h2 (fun h9 => by rcases h with h | h; exact hC.2.2.1 q h h9.1; omega)), fun w hw h9 => by rcases hS.2.2 w hw with h | h; exact hC.2.2.1 _ h h9.1; omega⟩
theorem b_gets (hC : bC E A mn own cc nL rt p s m args meth c) (hS : va_S (bW A s.heap.size) s.heap H locs) {C n d : String} {v : Value} {index : Nat} (hZ : bS C n d v E s) (hlink : Cond.fieldLink own index C n d ∈ lw_all) (hdg : decode cc pc = .ok (.getstatic index, 3))
    (kk : W p l e R s m args below meth c H locs cells slots Q (F0 m (pc + 3) ls (v :: rest))) : W p l e R s m args below meth c H locs cells slots Q (F0 m pc ls rest) :=
  va_gets hC.1.1.1 hC.1.1.2.1 hZ (b_Sz hC hS) hC.1.1.2.2.2.2.2.1 (hC.1.1.2.2.2.2.2.2 _ hlink) (fun _ h => h) hdg kk
/-- a new object -/
theorem b_new (hC : bC E A mn own cc nL rt p s m args meth c) (hS : va_S (bW A s.heap.size) s.heap H locs) {C : String} {T : u_T} {N ci index : Nat} (hin : ∀ w ∈ u_ws C T N, w ∈ lw_all) (ty : Nat → FieldType) (hty : ∀ k, k < N → parseFieldDescriptor (T k).2.2.1 = some (ty k)) (hcl : Cond.classLink own index C ∈ lw_all) (hinst : Cond.instantiable C N ∈ lw_all) (hini : Cond.initialized C ∈ lw_all) (hc : xcl[ci]? = some (C, T, N)) {fs : List Value} (hfs : ∀ j, j < N → defaultValue (ty j) = vp_V fs j) (hcells : cells + 1 ≤ R.cells) (hslots : slots + N ≤ R.slots) (hdg : decode cc pc = .ok (.new index, 3))
    (kk : ∀ (H1 : Heap), va_at E.1 E.2.1 (H.size, .inr (ci, fs)) H1 → H1.size = H.size + 1 → (∀ q, q < H.size → H1[q]? = H[q]?) → va_S (bW A s.heap.size) s.heap H1 locs → W p l e R s m args below meth c H1 locs (cells + 1) (slots + N) Q (F0 m (pc + 3) ls (.ref H.size :: rest))) : W p l e R s m args below meth c H locs cells slots Q (F0 m pc ls rest) := by
  obtain ⟨⟨⟨hx, hb, hr, hlocks, hml, hown, hts⟩, hK, hE, -⟩, -⟩ := hC
  have hc := hE _ _ hc
  have hKn := hK.1 ci _ hc
  refine W.newcK hx hb hown (hts _ hcl) (hts _ hinst) (hts _ hini) rfl hdg hcells hslots hKn.2.1 rfl fun H1 kC hkC e1 z1 o1 => ?_
  exact kk H1 ⟨_, hc, (u_born ty hts hin hKn hkC e1 hty).to hfs⟩ z1 o1 ⟨Nat.le_trans hS.1 (by omega), fun x h1 h2 => (o1 x (Nat.lt_of_lt_of_le h1 hS.1)).trans (hS.2.1 x h1 h2), hS.2.2⟩
theorem b_put (hC : bC E A mn own cc nL rt p s m args meth c) (hS : va_S (bW A s.heap.size) s.heap H locs) {C D : String} {T : u_T} {N ci index k a : Nat} {fs : List Value} (hA : va_at E.1 E.2.1 (a, .inr (ci, fs)) H) (ha : bW A s.heap.size a) (hin : ∀ w ∈ u_ws C T N, w ∈ lw_all) (ty0 : Nat → FieldType) (hty : ∀ k, k < N → parseFieldDescriptor (T k).2.2.1 = some (ty0 k)) (hnm : ∀ a, a < N → ∀ b, b < N → a ≠ b → (T a).2.1 ≠ (T b).2.1) (hc : xcl[ci]? = some (C, T, N)) (hk : k < N) (hlink : Cond.fieldLink own index D (T k).2.1 (T k).2.2.1 ∈ lw_all) (hsame : ∀ x, s.fieldFound? (T k).1 (T k).2.1 (T k).2.2.1 = some x → s.fieldFound? D (T k).2.1 (T k).2.2.1 = some x) (hfin : (T k).2.2.2 = false) {ty : FieldType} {v : Value} (hd : parseFieldDescriptor (T k).2.2.1 = some ty) (hn : narrow ty v = v) (hfit : fits ty v = true) (hl : k < fs.length) (hdg : decode cc pc = .ok (.putfield index, 3))
    (kk : ∀ (H1 : Heap) (locs1 : List Loc), va_at E.1 E.2.1 (a, .inr (ci, fs.set k v)) H1 → H1.size = H.size → (∀ q, q ≠ a → H1[q]? = H[q]?) → va_S (bW A s.heap.size) s.heap H1 locs1 → W p l e R s m args below meth c H1 locs1 cells slots Q (F0 m (pc + 3) ls rest)) : W p l e R s m args below meth c H locs cells slots Q (F0 m pc ls (v :: .ref a :: rest)) := by
  obtain ⟨⟨⟨hx, hb, hr, hlocks, hml, hown, hts⟩, hK, hE, -⟩, -⟩ := hC
  have hc := hE _ _ hc
  have hap := va_apart (own := own) hts hin ty0 hty hnm hK hc
  obtain ⟨r, h1, cell, q1, q2, q3, q4⟩ := hA
  have hr : r = (C, T, N) := Option.some.inj (h1.symm.trans hc)
  subst hr
  obtain ⟨hSl, hfc, kC, hkC, hkind⟩ := hK.1 ci _ hc
  obtain ⟨cf, kf, fi, f, hi, hsl⟩ := hSl k hk
  have hlay := hts _ (hin _ (u_in_lay hk))
  unfold u_lay at hlay
  rw [if_neg (by rw [hfin]; decide)] at hlay
  have hst := (u_facts hfc hkC (u_lays hts hin hk) hi).1
  have h6 := u_store hfc hkC hkind hlay hi hd hn hfit
  refine W.putK hx hb (f := f) ⟨hown, hts _ hlink, ⟨_, _, _, hsame _ hi⟩, hst⟩ (by rw [q2]; exact h6) q1 q3 (by rw [hsl]; exact k2_hasslot (q4 k hk)) rfl rfl hdg fun H' e1 e2 e3 => ?_
  rw [hsl] at e1 ⊢
  exact kk H' _ ⟨_, hc, t_OB.to (V := updV (vp_V fs) k v) ⟨_, e1, q2, q3, t_set q4 hap hk v⟩ (fun j _ => vp_updV_set hl v j)⟩ e2 e3 (hS.put e2 e3 ha)
theorem b_putF (hC : bC E A "<init>" own cc nL rt p s m args meth c) (hS : va_S (bW A s.heap.size) s.heap H locs) {C : String} {T : u_T} {N ci index k a : Nat} {fs : List Value} (hA : va_at E.1 E.2.1 (a, .inr (ci, fs)) H) (ha : bW A s.heap.size a) (hin : ∀ w ∈ u_ws C T N, w ∈ lw_all) (ty0 : Nat → FieldType) (hty : ∀ k, k < N → parseFieldDescriptor (T k).2.2.1 = some (ty0 k)) (hnm : ∀ a, a < N → ∀ b, b < N → a ≠ b → (T a).2.1 ≠ (T b).2.1) (hc : xcl[ci]? = some (C, T, N)) (hk : k < N) (hlink : Cond.fieldLink own index (T k).1 (T k).2.1 (T k).2.2.1 ∈ lw_all) (hfin : (T k).2.2.2 = true) (hdecl : (T k).1 = own) {ty : FieldType} {v : Value} (hd : parseFieldDescriptor (T k).2.2.1 = some ty) (hn : narrow ty v = v) (hfit : fits ty v = true) (hl : k < fs.length) (hdg : decode cc pc = .ok (.putfield index, 3))
    (kk : ∀ (H1 : Heap) (locs1 : List Loc), va_at E.1 E.2.1 (a, .inr (ci, fs.set k v)) H1 → H1.size = H.size → (∀ q, q ≠ a → H1[q]? = H[q]?) → va_S (bW A s.heap.size) s.heap H1 locs1 → W p l e R s m args below meth c H1 locs1 cells slots Q (F0 m (pc + 3) ls rest)) : W p l e R s m args below meth c H locs cells slots Q (F0 m pc ls (v :: .ref a :: rest)) := by
  obtain ⟨⟨⟨hx, hb, hr, hlocks, hml, hown, hts⟩, hK, hE, -⟩, -, -, hin2⟩ := hC
  have hc := hE _ _ hc
  have hap := va_apart (own := own) hts hin ty0 hty hnm hK hc
  obtain ⟨r, h1, cell, q1, q2, q3, q4⟩ := hA
  have hr : r = (C, T, N) := Option.some.inj (h1.symm.trans hc)
  subst hr
  obtain ⟨hSl, hfc, kC, hkC, hkind⟩ := hK.1 ci _ hc
  obtain ⟨cf, kf, fi, f, hi, hsl⟩ := hSl k hk
  have hlay := hts _ (hin _ (u_in_lay hk))
  unfold u_lay at hlay
  rw [if_pos hfin] at hlay
  have hst := (u_facts hfc hkC (u_lays hts hin hk) hi).1
  have hcf : m.cls = cf := by
    obtain ⟨_, _, c', _, _, _, -, -, hf', -, -, -, hown2, -⟩ := Cond.laysFinal_spec hlay
    have e1 : c' = cf := by have := hi.symm.trans hf'; simp at this; exact this.1.symm
    rw [hdecl] at hown2
    rw [← e1]; exact Option.some.inj (hown.symm.trans hown2)
  have h6 := u_fits hfc hkC hkind (Or.inr hlay) hi hd hn hfit
  refine W.putFinK hx hb hown (hts _ hlink) hi hst hcf hin2 (by rw [q2]; exact h6) q1 q3 (by rw [hsl]; exact k2_hasslot (q4 k hk)) rfl rfl hdg fun H' e1 e2 e3 => ?_
  rw [hsl] at e1 ⊢
  exact kk H' _ ⟨_, hc, t_OB.to (V := updV (vp_V fs) k v) ⟨_, e1, q2, q3, t_set q4 hap hk v⟩ (fun j _ => vp_updV_set hl v j)⟩ e2 e3 (hS.put e2 e3 ha)
/-- behind a call's run -/
theorem b_back {mc ms : Nat} {g : JFrame} {st : List Value} {a : Array Value} {A1 : Nat → Prop} {Po : Option Value → Heap → Prop} (hr : va_Run p l e R s m args below meth c H locs cells slots mc ms (F0 m pc ls st) rest (bQc A1 H.size Po a) (bW A1 H.size)) (hS : va_S (bW A s.heap.size) s.heap H locs) (hA : ∀ q, A1 q → bW A s.heap.size q)
    (kk : ∀ (o : Option Value) (H1 : Heap) (locs1 : List Loc), Po o H1 → H.size ≤ H1.size → (∀ q, q < H.size → ¬ A1 q → H1[q]? = H[q]?) → va_S (bW A s.heap.size) s.heap H1 locs1 → W p l e R s m args below meth c H1 locs1 (cells + mc) (slots + ms) Q (F0 m (pc + 3) ls (o.toList ++ rest))) : W p l e R s m args below meth c H locs cells slots Q (F0 m pc ls st) := by
  intro T hT X
  obtain ⟨v, st₀, t, T', L, h0, X', hL, e1, e2, ⟨⟨o, hv, hp⟩, hz, hk⟩, sg⟩ := hr T hT X
  cases hv
  rw [h0] at hz hk
  have hm : ∀ q, bW A1 H.size q → bW A s.heap.size q := fun q h => by
    rcases h with h | h
    · exact hA q h
    · exact Or.inr (Nat.le_trans hS.1 h)
  obtain ⟨t2, a1, b1⟩ := kk v T'.heap (locs ++ L) (by rw [e1]; exact hp) (by rw [e1]; exact hz) (fun q h1 h2 => by
      rw [e1]
      exact hk q h1 (fun h => by rcases h with h | h; exact h2 h; omega)) ⟨Nat.le_trans hS.1 (by rw [e1]; exact hz), fun q h1 h2 => by rw [e1, hk q (Nat.lt_of_lt_of_le h1 hS.1) (fun w => h2 (hm q w))]; exact hS.2.1 q h1 h2, fun q hq => by
      rcases List.mem_append.mp hq with h | h
      · exact hS.2.2 q h
      · exact hm _ (hL q h)⟩ T' rfl X'
  exact ⟨t2, sg t2 a1, b1⟩
theorem b_callI {y : MethodName} {bytes : ByteArray} {maxL n index : Nat} {rm : Room} {st : List Value} {A1 : Nat → Prop} {Cd : Heap → Prop} {Po : Nat → Option Value → Heap → Prop} (As : List Value) (b : Nat) (hC : bC E A mn own cc nL rt p s m args meth c) (hS : va_S (bW A s.heap.size) s.heap H locs) (hls : ls.size = nL) (hM : bM l E A1 y (ws_ y bytes maxL none) rm (.ref b :: As) Cd Po) (hA1 : ∀ q, A1 q → ¬ E.2.2.2.2.1 q) (hCd : Cd H)
    (cw : CallB R s args own index y bytes maxL none (ws_ y bytes maxL none) rm rm.cells rm.slots n ∧ y.name = "<init>" ∧ (Cond.instanceMethod y).before args s = true) (hst : st = As.reverse ++ .ref b :: rest) (hn : As.length = n) (hroom : 2 * (F0 m pc ls st).monitorRoom + (rest.map fun v => v.category).sum ≤ 8) (hfit : cells + rm.cells ≤ R.cells ∧ slots + rm.slots ≤ R.slots) (hA : ∀ q, A1 q → bW A s.heap.size q) (hdg : decode cc pc = .ok (.invokespecial index, 3))
    (kk : ∀ (o : Option Value) (H1 : Heap) (locs1 : List Loc), Po H.size o H1 → H.size ≤ H1.size → (∀ q, q < H.size → ¬ A1 q → H1[q]? = H[q]?) → va_S (bW A s.heap.size) s.heap H1 locs1 → W p l e R s m args below meth c H1 locs1 (cells + rm.cells) (slots + rm.slots) Q (F0 m (pc + 3) ls (o.toList ++ rest))) : W p l e R s m args below meth c H locs cells slots Q (F0 m pc ls st) := by
  have hC0 := hC
  obtain ⟨⟨⟨hx, hb, hr, hlocks, hml, hown, hts⟩, hK, hE, -⟩, hG, -⟩ := hC
  have hr := va_runI (l := l) (e := e) (R := R) (below := below) (meth := meth) (locs := locs) (cells := cells) (slots := slots) (g := F0 m pc ls st) (Ts := lw_all) (rest := rest) ⟨hx, hb, hml, hown, hts⟩ (hM hE hA1 H.size) cw ⟨bPc_blind E H.size _ Cd, fun U hU hW => ⟨rfl, by rw [hU], va_K.moved hW.alike hK, hG.k (b_fr hC0 hS hU hW), by rw [hU]; exact hCd⟩⟩ rfl hn hls hst hroom hdg hfit
  exact b_back (g := F0 m pc ls st) hr hS hA kk
theorem b_callS {y : MethodName} {bytes : ByteArray} {maxL n index : Nat} {ret : Option FieldType} {rm : Room} {st : List Value} {A1 : Nat → Prop} {Cd : Heap → Prop} {Po : Nat → Option Value → Heap → Prop} (As : List Value) (hC : bC E A mn own cc nL rt p s m args meth c) (hS : va_S (bW A s.heap.size) s.heap H locs) (hls : ls.size = nL) (hM : bM l E A1 y (ws_ y bytes maxL ret) rm As Cd Po) (hA1 : ∀ q, A1 q → ¬ E.2.2.2.2.1 q) (hCd : Cd H)
    (cw : CallB R s args own index y bytes maxL ret (ws_ y bytes maxL ret) rm rm.cells rm.slots n ∧ (Cond.static y).before args s = true) (hst : st = As.reverse ++ rest) (hn : As.length = n) (hroom : 2 * (F0 m pc ls st).monitorRoom + (rest.map fun v => v.category).sum ≤ 8) (hfit : cells + rm.cells ≤ R.cells ∧ slots + rm.slots ≤ R.slots) (hA : ∀ q, A1 q → bW A s.heap.size q) (hdg : decode cc pc = .ok (.invokestatic index, 3))
    (kk : ∀ (o : Option Value) (H1 : Heap) (locs1 : List Loc), Po H.size o H1 → H.size ≤ H1.size → (∀ q, q < H.size → ¬ A1 q → H1[q]? = H[q]?) → va_S (bW A s.heap.size) s.heap H1 locs1 → W p l e R s m args below meth c H1 locs1 (cells + rm.cells) (slots + rm.slots) Q (F0 m (pc + 3) ls (o.toList ++ rest))) : W p l e R s m args below meth c H locs cells slots Q (F0 m pc ls st) := by
  have hC0 := hC
  obtain ⟨⟨⟨hx, hb, hr, hlocks, hml, hown, hts⟩, hK, hE, -⟩, hG, -⟩ := hC
  have hr := va_runS (l := l) (e := e) (R := R) (below := below) (meth := meth) (locs := locs) (cells := cells) (slots := slots) (g := F0 m pc ls st) (Ts := lw_all) (rest := rest) ⟨hx, hb, hml, hown, hts⟩ (hM hE hA1 H.size) cw ⟨bPc_blind E H.size _ Cd, fun U hU hW => ⟨rfl, by rw [hU], va_K.moved hW.alike hK, hG.k (b_fr hC0 hS hU hW), by rw [hU]; exact hCd⟩⟩ rfl hn hls hst hroom hdg hfit
  exact b_back (g := F0 m pc ls st) hr hS hA kk
theorem b_callV {y : MethodName} {bytes : ByteArray} {maxL n index : Nat} {ret : Option FieldType} {rm : Room} {st : List Value} {C : String} {A1 : Nat → Prop} {Cd : Heap → Prop} {Po : Nat → Option Value → Heap → Prop} (As : List Value) (b : Nat) (hC : bC E A mn own cc nL rt p s m args meth c) (hS : va_S (bW A s.heap.size) s.heap H locs) (hls : ls.size = nL) (hM : bM l E A1 y (ws_ y bytes maxL ret) rm (.ref b :: As) Cd Po) (hA1 : ∀ q, A1 q → ¬ E.2.2.2.2.1 q) (hCd : Cd H) (hrv : ∃ cell : Cell, H[b]? = some cell ∧ cell.vm.isStatics = false ∧ s.vm.findClass C = some cell.cls)
    (cw : CallW R s args own C index y bytes maxL ret (ws_ y bytes maxL ret) rm rm.cells rm.slots n) (hst : st = As.reverse ++ .ref b :: rest) (hn : As.length = n) (hroom : 2 * (F0 m pc ls st).monitorRoom + (rest.map fun v => v.category).sum ≤ 8) (hfit : cells + rm.cells ≤ R.cells ∧ slots + rm.slots ≤ R.slots) (hA : ∀ q, A1 q → bW A s.heap.size q) (hdg : decode cc pc = .ok (.invokevirtual index, 3))
    (kk : ∀ (o : Option Value) (H1 : Heap) (locs1 : List Loc), Po H.size o H1 → H.size ≤ H1.size → (∀ q, q < H.size → ¬ A1 q → H1[q]? = H[q]?) → va_S (bW A s.heap.size) s.heap H1 locs1 → W p l e R s m args below meth c H1 locs1 (cells + rm.cells) (slots + rm.slots) Q (F0 m (pc + 3) ls (o.toList ++ rest))) : W p l e R s m args below meth c H locs cells slots Q (F0 m pc ls st) := by
  have hC0 := hC
  obtain ⟨⟨⟨hx, hb, hr, hlocks, hml, hown, hts⟩, hK, hE, -⟩, hG, -⟩ := hC
  have hr := va_runV (l := l) (e := e) (R := R) (below := below) (meth := meth) (locs := locs) (cells := cells) (slots := slots) (g := F0 m pc ls st) (Ts := lw_all) (rest := rest) ⟨hx, hb, hml, hown, hts⟩ (hM hE hA1 H.size) cw ⟨bPc_blind E H.size _ Cd, hrv, fun U hU hW => ⟨rfl, by rw [hU], va_K.moved hW.alike hK, hG.k (b_fr hC0 hS hU hW), by rw [hU]; exact hCd⟩⟩ rfl hn hls hst hroom hdg hfit
  exact b_back (g := F0 m pc ls st) hr hS hA kk
theorem b_vret {Po : Option Value → Heap → Prop} (hC : bC E A mn own cc nL none p s m args meth c) (hS : va_S (bW A s.heap.size) s.heap H locs) (hfit : cells ≤ R.cells ∧ slots ≤ R.slots) (hPo : Po none H) (hdg : decode cc pc = .ok (.return_, 1)) : W p l e R s m args below meth c H locs cells slots (bQ A R below args s Po) (F0 m pc ls []) :=
  W.widen hfit.1 hfit.2 (W.vret hC.1.1.1 hC.1.1.2.1 hC.1.1.2.2.1 (fun t ht hW => ⟨⟨_, rfl, by rw [ht]; exact hPo⟩, hS.F ht⟩) hS.2.2 hdg hC.1.1.2.2.2.1)
theorem b_iret {v : Int32} {Po : Option Value → Heap → Prop} (hC : bC E A mn own cc nL (some .int) p s m args meth c) (hS : va_S (bW A s.heap.size) s.heap H locs) (hfit : cells ≤ R.cells ∧ slots ≤ R.slots) (hPo : Po (some (.int v)) H) (hdg : decode cc pc = .ok (.ireturn, 1)) : W p l e R s m args below meth c H locs cells slots (bQ A R below args s Po) (F0 m pc ls [.int v]) :=
  W.widen hfit.1 hfit.2 (W.iret hC.1.1.1 hC.1.1.2.1 hC.1.1.2.2.1 (fun t ht hW => ⟨⟨_, rfl, by rw [ht]; exact hPo⟩, hS.F ht⟩) hS.2.2 hdg hC.1.1.2.2.2.1)
theorem b_zret {v : Int32} {Po : Option Value → Heap → Prop} (hC : bC E A mn own cc nL (some .boolean) p s m args meth c) (hS : va_S (bW A s.heap.size) s.heap H locs) (hfit : cells ≤ R.cells ∧ slots ≤ R.slots) (hv : v &&& 1 = v) (hPo : Po (some (.int v)) H) (hdg : decode cc pc = .ok (.ireturn, 1)) : W p l e R s m args below meth c H locs cells slots (bQ A R below args s Po) (F0 m pc ls [.int v]) :=
  W.widen hfit.1 hfit.2 (W.zret hC.1.1.1 hC.1.1.2.1 hC.1.1.2.2.1 (by show Value.int (v &&& 1) = _; rw [hv]) (fun t ht hW => ⟨⟨_, rfl, by rw [ht]; exact hPo⟩, hS.F ht⟩) hS.2.2 hdg hC.1.1.2.2.2.1)
theorem b_nret {v : Int32} {ty : FieldType} {Po : Option Value → Heap → Prop} (hC : bC E A mn own cc nL (some ty) p s m args meth c) (hS : va_S (bW A s.heap.size) s.heap H locs) (hfit : cells ≤ R.cells ∧ slots ≤ R.slots) (hv : narrow ty (.int v) = .int v) (hPo : Po (some (.int v)) H) (hdg : decode cc pc = .ok (.ireturn, 1)) : W p l e R s m args below meth c H locs cells slots (bQ A R below args s Po) (F0 m pc ls [.int v]) :=
  W.widen hfit.1 hfit.2 (W.zret hC.1.1.1 hC.1.1.2.1 hC.1.1.2.2.1 hv (fun t ht hW => ⟨⟨_, rfl, by rw [ht]; exact hPo⟩, hS.F ht⟩) hS.2.2 hdg hC.1.1.2.2.2.1)
theorem b_aret {a : Nat} {rt : FieldType} {Po : Option Value → Heap → Prop} (hC : bC E A mn own cc nL (some rt) p s m args meth c) (hrt : (∃ C, rt = .object C) ∨ ∃ t, rt = .array t) (hS : va_S (bW A s.heap.size) s.heap H locs) (hfit : cells ≤ R.cells ∧ slots ≤ R.slots) (hPo : Po (some (.ref a)) H) (hdg : decode cc pc = .ok (.areturn, 1)) : W p l e R s m args below meth c H locs cells slots (bQ A R below args s Po) (F0 m pc ls [.ref a]) :=
  W.widen hfit.1 hfit.2 (W.aret (rt := rt) hC.1.1.1 hC.1.1.2.1 hC.1.1.2.2.1 hrt (Or.inr ⟨_, rfl⟩) (fun t ht hW => ⟨⟨_, rfl, by rw [ht]; exact hPo⟩, hS.F ht⟩) hS.2.2 hdg hC.1.1.2.2.2.1)
end BB
