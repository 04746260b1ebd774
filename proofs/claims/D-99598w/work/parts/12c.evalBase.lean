/-! methods that change nothing: the rows, ArrayList's size, get, isEmpty, Integer.intValue -/
set_option maxRecDepth 100000
def xcl : List vw_C := [(RX0, TX0, 11), (RX1, TX1, 9), (RX4, TX4, 3), (RX3, TX3, 8), (RX5, TX5, 8), (RX6, TX6, 3), (RX7, TX7, 1), (RX8, TX8, 1), (RX9, TX9, 3), (RX10, TX10, 2), (RX11, TX11, 3), (RX12, TX12, 2), (RX13, TX13, 1), (RX14, TX14, 1), (RX15, TX15, 1), (RX16, TX16, 4), (RJ3, TJ3, 3), (RJ15, TJ15, 1)]
def xCl (E : XE) : Prop := ∀ (k : Nat) (q : vw_C), xcl[k]? = some q → E.2.1[k]? = some q
def ySum : MethodName := ⟨"RailingsCount$Sum", "of", "([I)J"⟩
def yAsk : MethodName := ⟨"RailingsCount$Asked", "is", "([I)Z"⟩
def xnI : List (String × MethodName × MethodName) := [(RX7, ySum, yX7_of), (RX13, ySum, yX13_of), (RX15, ySum, yX15_of), (RX6, ySum, yX6_of), (RX12, ySum, yX12_of), (RX14, ySum, yX14_of), (RX11, ySum, yX11_of), (RX9, yAsk, yX9_is), (RX8, yAsk, yX8_is), (RX10, yAsk, yX10_is)]
/-- the tables' words of the interface calls -/
def eG (U : State) : Prop := ∀ q ∈ xnI, va_Fw q.1 q.2.1 q.2.2 U
theorem eG_moved {s U : State} (hW : s.WarmedH U.vm) (h : eG s) : eG U := by
  intro q hq
  refine va_Fw.moved ?_ hW.alike (h q hq)
  have hx : ∀ q ∈ xnI, q.2.1.cls ≠ "java/lang/invoke/MethodHandle" ∧ q.2.1.cls ≠ "java/lang/invoke/VarHandle" := by decide +kernel
  exact hx q hq
theorem eG_same {s U : State} (hv : s.vm = U.vm) (h : eG s) : eG U := by
  intro q hq
  obtain ⟨h1, h2, h3, h4, h5⟩ := h q hq
  exact ⟨va_Nw.same rfl hv h1, va_Nw.same rfl hv h2, va_Nw.same rfl hv h3, va_Nw.same rfl hv h4, va_Nw.same rfl hv h5⟩
def eC (E : XE) (own : String) (cc : ByteArray) (nL : Nat) (rt : Option FieldType) (p : Program) (s : State) (m : MethodId) (args : Array Value) (meth : Method) (c : Code) : Prop := sC own cc nL rt p s m args meth c ∧ va_K E.1 E.2.1 (xtys E) s ∧ xCl E ∧ eG s
/-- a method that changes nothing: on cells that are as Cd says it answers o -/
def eM (l : Launch) (E : XE) (y : MethodName) (ws : List Cond) (rm : Room) (vs : List Value) (Cd : Heap → Prop) (o : Option Value) : Prop := Met l y ws rm (fun v U => v = vs.toArray ∧ va_K E.1 E.2.1 (xtys E) U ∧ eG U ∧ Cd U.heap) (fun _ st oc t => oc = .returned o ∧ t.heap = st.heap) 0 0 (fun _ => False)
theorem e_met {l : Launch} {E : XE} {y : MethodName} {own : String} {cc : ByteArray} {maxL : Nat} {ret : Option FieldType} {rm : Room} {vs : List Value} {Cd : Heap → Prop} {o : Option Value} (hE : xCl E) (hy : plainName y.cls = true) (hc : y.cls = own) (hlen : (lg_sl vs).length ≤ maxL)
    (body : ∀ (p : Program) (e : Env) (s : State) (m : MethodId) (args : Array Value) (below : List Frame) (meth : Method) (c : Code), eC E own cc maxL ret p s m args meth c → Cd s.heap → sW p l e rm s m args below meth c maxL (sQ below args s o) 0 (lv_args 0 vs) []) : eM l E y (ws_ y cc maxL ret) rm vs Cd o := by
  refine Met.ofW (cc := cc) (maxL := maxL) (ret := ret) hy rfl ?_
  intro p e s m args below meth c s₁ B hml hv
  obtain ⟨rfl, hK, hG, hCd⟩ := hv
  have hts := atoms_spec (ws := ws_ y cc maxL ret) B.pre
  have hts : ∀ w ∈ lw_all, w.before _ s = true := fun w h => hts w (List.mem_cons_of_mem _ h)
  have hown : s.vm.findClass own = some m.cls := by rw [← hc]; exact findClass_of_methodNamed B.named
  have hl := lv_entry vs (n := maxL) hlen
  rw [lg_entry_eq]
  exact body p e s m _ below meth c ⟨⟨B.exec, B.bytes, B.returns, B.notSynchronized, hml, hown, hts⟩, hK, hE, hG⟩ hCd _ hl
theorem e_one {D : va_G} {cl : List vw_C} {x : Nat × va_E} {H : Heap} (h : va_at D cl x H) : va_P D cl [x] H := by
  intro k q hk
  match k, hk with
  | 0, hk => cases hk; exact h
  | k + 1, hk => cases hk
/-- an object that is there, by its fields (the weaker word: of its cell only that it's no row of statics) -/
def wOB (E : XE) (a ci : Nat) (vs : List Value) (H : Heap) : Prop := ∃ (cell : Cell) (r : vw_C), E.2.1[ci]? = some r ∧ H[a]? = some cell ∧ cell.cls = E.1.1 ci ∧ cell.vm.isStatics = false ∧ cell.vm ≠ .unknown ∧ ∀ k, k < r.2.2 → cell.slots[E.1.2 ci k]? = some (vp_V vs k)
theorem wOB.of {E : XE} {a ci : Nat} {vs : List Value} {H : Heap} (h : va_at E.1 E.2.1 (a, .inr (ci, vs)) H) : wOB E a ci vs H := by
  obtain ⟨r, h1, cell, q1, q2, q3, q4⟩ := h
  exact ⟨cell, r, h1, q1, q2, (by rw [q3]; rfl), (by rw [q3]; exact (fun h => by cases h)), q4⟩
theorem wOB.lt {E : XE} {a ci : Nat} {vs : List Value} {H : Heap} (h : wOB E a ci vs H) : a < H.size := by
  obtain ⟨cell, r, h1, q1, -⟩ := h
  exact (Array.getElem?_eq_some_iff.mp q1).1
theorem wOB.kept {E : XE} {a ci : Nat} {vs : List Value} {H H1 : Heap} (h : wOB E a ci vs H) (hq : H1[a]? = H[a]?) : wOB E a ci vs H1 := by
  obtain ⟨cell, r, h1, q1, q2⟩ := h
  exact ⟨cell, r, h1, by rw [hq]; exact q1, q2⟩
/-- an array of references that is there -/
def wAr (E : XE) (a t n : Nat) (g : Nat → Option Nat) (H : Heap) : Prop := ∃ cell : Cell, H[a]? = some cell ∧ cell.cls = E.2.2.2.1 t ∧ cell.vm.isStatics = false ∧ cell.vm ≠ .unknown ∧ cell.slots.size = n ∧ ∀ j, j < n → cell.slots[j]? = some (va_rf (g j))
theorem wAr.of {E : XE} {a t n : Nat} {g : Nat → Option Nat} {H : Heap} (h : va_at E.1 E.2.1 (a, .inl (E.2.2.2.1 t, n, .inr (.inr (.inr (.inr g))))) H) : wAr E a t n g H := by
  have h : H[a]? = some (vp_cell (E.2.2.2.1 t) (n, .inr (.inr (.inr (.inr g))))) := h
  rw [vp_cell_q] at h
  exact ⟨_, h, rfl, rfl, (fun h => by cases h), arrV_size _ _ _, fun j hj => arrV_read _ _ hj⟩
theorem wAr.lt {E : XE} {a t n : Nat} {g : Nat → Option Nat} {H : Heap} (h : wAr E a t n g H) : a < H.size := by
  obtain ⟨cell, q1, -⟩ := h
  exact (Array.getElem?_eq_some_iff.mp q1).1
theorem wAr.kept {E : XE} {a t n : Nat} {g : Nat → Option Nat} {H H1 : Heap} (h : wAr E a t n g H) (hq : H1[a]? = H[a]?) : wAr E a t n g H1 := by
  obtain ⟨cell, q1, q2⟩ := h
  exact ⟨cell, by rw [hq]; exact q1, q2⟩
theorem wAr.arr {E : XE} {a t n : Nat} {g : Nat → Option Nat} {H : Heap} {s : State} {C : String} {tys : List (ClassId × FieldType)} {D : va_G} {cl : List vw_C} (h : wAr E a t n g H) (hK : va_K D cl tys s) {t0 : Nat} (ht : tys[t0]? = some (E.2.2.2.1 t, .object C)) : ∃ cell : Cell, H[a]? = some cell ∧ s.isArrayOf cell (.object C) ∧ cell.vm ≠ .unknown ∧ cell.slots.size = n ∧ ∀ j, j < n → cell.slots[j]? = some (va_rf (g j)) := by
  obtain ⟨cell, q1, q2, q3, q4, q5, q6⟩ := h
  refine ⟨cell, q1, ⟨(fun k h => by rw [h] at q3; cases q3), ?_⟩, q4, q5, q6⟩
  have h1 := ((hK.2 t0 _ ht).1 0 (fun _ => .null)).2
  rw [q2]
  exact h1
section EB
variable {p : Program} {l : Launch} {e : Env} {R : Room} {s : State} {m : MethodId} {args : Array Value} {below : List Frame} {meth : Method} {c : Code} {H : Heap} {locs : List Loc} {cells slots : Nat} {Q : State → Prop} {E : XE} {own : String} {cc : ByteArray} {nL : Nat} {rt : Option FieldType} {ls : Array Slot} {pc : Nat} {rest : List Value}
theorem e_recv (hC : eC E own cc nL rt p s m args meth c) {b ci : Nat} {fs : List Value} {q : vw_C} (hA : va_at E.1 E.2.1 (b, .inr (ci, fs)) H) (hcl : E.2.1[ci]? = some q) : ∃ cell : Cell, H[b]? = some cell ∧ cell.vm.isStatics = false ∧ s.vm.findClass q.1 = some cell.cls := va_recv hC.2.1 (e_one hA) (q0 := 0) hcl rfl
theorem e_get {ix k ci a : Nat} {fs : List Value} {C D : String} {T : u_T} {N : Nat} {v : Value} (hC : eC E own cc nL rt p s m args meth c) (hA : va_at E.1 E.2.1 (a, .inr (ci, fs)) H) (hin : ∀ w ∈ u_ws C T N, w ∈ lw_all) (hcl : xcl[ci]? = some (C, T, N)) (hk : k < N) (hlink : Cond.fieldLink own ix D (T k).2.1 (T k).2.2.1 ∈ lw_all) (hsame : (T k).1 = D) (hv : fs[k]? = some v) (hdg : decode cc pc = .ok (.getfield ix, 3))
    (kk : W p l e R s m args below meth c H locs cells slots Q (F0 m (pc + 3) ls (v :: rest))) : W p l e R s m args below meth c H locs cells slots Q (F0 m pc ls (.ref a :: rest)) := by
  obtain ⟨⟨hx, hb, hr, hlocks, hml, hown, hts⟩, hK, hcl0, hG⟩ := hC
  exact va_get (D := E.1) (cl := E.2.1) (ci := ci) (v := v) (C := C) (T := T) (N := N) hx hb hts hin hown hK (e_one hA) 0 rfl (hcl0 _ _ hcl) k hk (hts _ hlink) (fun _ h9 => by rw [← hsame]; exact h9) hv hdg kk
theorem e_recvW (hC : eC E own cc nL rt p s m args meth c) {b ci : Nat} {fs : List Value} {q : vw_C} (hA : wOB E b ci fs H) (hcl : E.2.1[ci]? = some q) : ∃ cell : Cell, H[b]? = some cell ∧ cell.vm.isStatics = false ∧ s.vm.findClass q.1 = some cell.cls := by
  obtain ⟨cell, r, h1, q1, q2, q3, q4⟩ := hA
  exact ⟨cell, q1, q3, by rw [q2]; exact (hC.2.1.1 ci q hcl).2.1⟩
theorem e_getW {ix k ci a : Nat} {fs : List Value} {C D : String} {T : u_T} {N : Nat} {v : Value} (hC : eC E own cc nL rt p s m args meth c) (hA : wOB E a ci fs H) (hin : ∀ w ∈ u_ws C T N, w ∈ lw_all) (hcl : xcl[ci]? = some (C, T, N)) (hk : k < N) (hlink : Cond.fieldLink own ix D (T k).2.1 (T k).2.2.1 ∈ lw_all) (hsame : (T k).1 = D) (hv : fs[k]? = some v) (hdg : decode cc pc = .ok (.getfield ix, 3))
    (kk : W p l e R s m args below meth c H locs cells slots Q (F0 m (pc + 3) ls (v :: rest))) : W p l e R s m args below meth c H locs cells slots Q (F0 m pc ls (.ref a :: rest)) := by
  obtain ⟨⟨hx, hb, hr, hlocks, hml, hown, hts⟩, hK, hcl0, hG⟩ := hC
  obtain ⟨cell, r, h1, q1, q2, q3, q4, q5⟩ := hA
  have hc := hcl0 _ _ hcl
  have hr : r = (C, T, N) := Option.some.inj (h1.symm.trans hc)
  subst hr
  obtain ⟨hS, hfc, kC, hkC, hkind⟩ := hK.1 ci _ hc
  obtain ⟨cf, kf, fi, f, hi, hsl⟩ := hS k hk
  refine W.getf hx hb hown (hts _ hlink) ((fun h9 => by rw [← hsame]; exact h9) hi) (u_facts hfc hkC (u_lays hts hin hk) hi).1 q1 q4 (v := v) ?_ rfl rfl hdg kk
  rw [hsl, q5 k hk]
  simp [vp_V, hv]
theorem e_getNW {ix k ci a : Nat} {fs : List Value} {C D host : String} {T : u_T} {N : Nat} {v : Value} (hC : eC E own cc nL rt p s m args meth c) (hA : wOB E a ci fs H) (hin : ∀ w ∈ u_ws C T N, w ∈ lw_all) (hcl : xcl[ci]? = some (C, T, N)) (hk : k < N) (hlink : va_Nw (Cond.fieldLinkNest own ix D (T k).2.1 (T k).2.2.1 host) s) (hsame : (T k).1 = D) (hv : fs[k]? = some v) (hdg : decode cc pc = .ok (.getfield ix, 3))
    (kk : W p l e R s m args below meth c H locs cells slots Q (F0 m (pc + 3) ls (v :: rest))) : W p l e R s m args below meth c H locs cells slots Q (F0 m pc ls (.ref a :: rest)) := by
  obtain ⟨⟨hx, hb, hr, hlocks, hml, hown, hts⟩, hK, hcl0, hG⟩ := hC
  obtain ⟨cell, r, h1, q1, q2, q3, q4, q5⟩ := hA
  have hc := hcl0 _ _ hcl
  have hr : r = (C, T, N) := Option.some.inj (h1.symm.trans hc)
  subst hr
  obtain ⟨hS, hfc, kC, hkC, hkind⟩ := hK.1 ci _ hc
  obtain ⟨cf, kf, fi, f, hi, hsl⟩ := hS k hk
  refine va_Wgetf hx hb hown (va_Nw.use rfl hlink) ((fun h9 => by rw [← hsame]; exact h9) hi) (u_facts hfc hkC (u_lays hts hin hk) hi).1 q1 q4 (v := v) ?_ rfl rfl hdg kk
  rw [hsl, q5 k hk]
  simp [vp_V, hv]
theorem e_aldW {a t t0 n : Nat} {C : String} {g : Nat → Option Nat} {i : Int32} (hC : eC E own cc nL rt p s m args meth c) (hA : wAr E a t n g H) (ht : (xtys E)[t0]? = some (E.2.2.2.1 t, .object C)) (hin : ¬ ib i n) (hdg : decode cc pc = .ok (.aaload, 1))
    (kk : W p l e R s m args below meth c H locs cells slots Q (F0 m (pc + 1) ls (va_rf (g i.toNatClampNeg) :: rest))) : W p l e R s m args below meth c H locs cells slots Q (F0 m pc ls (.int i :: .ref a :: rest)) := by
  obtain ⟨cell, h1, h2, h3, h4, h5⟩ := hA.arr hC.2.1 ht
  have hlt : i.toNatClampNeg < n := Nat.not_le.mp fun q => hin (Or.inr q)
  exact W.aald (v := va_rf (g i.toNatClampNeg)) (ty := .object C) hC.1.1 hC.1.2.1 h1 h2 rfl h3 (fun q => by rcases q with q | q; exact hin (Or.inl q); omega) (h5 _ hlt) rfl rfl hdg kk
theorem e_alenW {a t t0 n : Nat} {C : String} {g : Nat → Option Nat} {v : Int32} (hC : eC E own cc nL rt p s m args meth c) (hA : wAr E a t n g H) (ht : (xtys E)[t0]? = some (E.2.2.2.1 t, .object C)) (hv : Int32.ofNat n = v) (hdg : decode cc pc = .ok (.arraylength, 1))
    (kk : W p l e R s m args below meth c H locs cells slots Q (F0 m (pc + 1) ls (.int v :: rest))) : W p l e R s m args below meth c H locs cells slots Q (F0 m pc ls (.ref a :: rest)) := by
  obtain ⟨cell, h1, h2, h3, h4, h5⟩ := hA.arr hC.2.1 ht
  subst hv
  exact W.alen (n := Int32.ofNat n) hC.1.1 hC.1.2.1 h1 h2 (by rw [h4]) rfl rfl hdg kk
theorem e_callV {y : MethodName} {bytes : ByteArray} {maxL n index : Nat} {ret : Option FieldType} {rm : Room} {o : Option Value} {st : List Value} {C : String} {Cd : Heap → Prop} (As : List Value) (b : Nat) (hC : eC E own cc nL rt p s m args meth c) (hls : ls.size = nL) (hM : eM l E y (ws_ y bytes maxL ret) rm (.ref b :: As) Cd o) (hCd : Cd H) (hrv : ∃ cell : Cell, H[b]? = some cell ∧ cell.vm.isStatics = false ∧ s.vm.findClass C = some cell.cls)
    (cw : CallW R s args own C index y bytes maxL ret (ws_ y bytes maxL ret) rm 0 0 n) (hst : st = As.reverse ++ .ref b :: rest) (hn : As.length = n) (hroom : 2 * (F0 m pc ls st).monitorRoom + (rest.map fun v => v.category).sum ≤ 8) (hfit : cells + 0 ≤ R.cells ∧ slots + 0 ≤ R.slots) (hdg : decode cc pc = .ok (.invokevirtual index, 3))
    (kk : W p l e R s m args below meth c H locs cells slots Q (F0 m (pc + 3) ls (o.toList ++ rest))) : W p l e R s m args below meth c H locs cells slots Q (F0 m pc ls st) := by
  obtain ⟨⟨hx, hb, hr, hlocks, hml, hown, hts⟩, hK, hcl0, hG⟩ := hC
  have hbl : FrameBlind (fun v U => v = (Value.ref b :: As).toArray ∧ va_K E.1 E.2.1 (xtys E) U ∧ eG U ∧ Cd U.heap) := fun a U g mk q => ⟨q.1, va_K.moved (u := U) (U := U.calling g mk a) (Vm.Alike.refl U.vm) q.2.1, eG_same (s := U) (U := U.calling g mk a) rfl q.2.2.1, q.2.2.2⟩
  have hr := va_runV (l := l) (e := e) (R := R) (below := below) (meth := meth) (H := H) (locs := locs) (cells := cells) (slots := slots) (g := F0 m pc ls st) (Ts := lw_all) (rest := rest) ⟨hx, hb, hml, hown, hts⟩ hM cw ⟨hbl, hrv, fun U hU hW => ⟨rfl, va_K.moved hW.alike hK, eG_moved hW hG, by rw [hU]; exact hCd⟩⟩ rfl hn hls hst hroom hdg hfit
  intro T hT X
  obtain ⟨v, st₀, t, T', L, h0, X', hL, e1, e2, ⟨hv, hh⟩, sg⟩ := hr T hT X
  cases hv
  obtain ⟨t2, a1, b1⟩ := kk T' (by rw [e1, hh, h0]) (Stand.forget X' (fun q h => (hL q h).elim))
  exact ⟨t2, sg t2 a1, b1⟩
theorem e_callF {x y : MethodName} {bytes : ByteArray} {maxL n index count : Nat} {ret : Option FieldType} {rm : Room} {o : Option Value} {st : List Value} {C : String} {cC : ClassId} {Cd : Heap → Prop} (As : List Value) (b : Nat) (hC : eC E own cc nL rt p s m args meth c) (hls : ls.size = nL) (hat : ClassAt s C cC) (hM : eM l E y (ws_ y bytes maxL ret) rm (.ref b :: As) Cd o) (hCd : Cd H) (hrv : ∃ cell : Cell, H[b]? = some cell ∧ cell.vm.isStatics = false ∧ s.vm.findClass C = some cell.cls)
    (cw : va_CI R s args own C index x y bytes maxL ret (ws_ y bytes maxL ret) rm 0 0 n) (hst : st = As.reverse ++ .ref b :: rest) (hn : As.length = n) (hroom : 2 * (F0 m pc ls st).monitorRoom + (rest.map fun v => v.category).sum ≤ 8) (hfit : cells + 0 ≤ R.cells ∧ slots + 0 ≤ R.slots) (hdg : decode cc pc = .ok (.invokeinterface index count, 5))
    (kk : W p l e R s m args below meth c H locs cells slots Q (F0 m (pc + 5) ls (o.toList ++ rest))) : W p l e R s m args below meth c H locs cells slots Q (F0 m pc ls st) := by
  obtain ⟨⟨hx, hb, hr, hlocks, hml, hown, hts⟩, hK, hcl0, hG⟩ := hC
  have hbl : FrameBlind (fun v U => v = (Value.ref b :: As).toArray ∧ va_K E.1 E.2.1 (xtys E) U ∧ eG U ∧ Cd U.heap) := fun a U g mk q => ⟨q.1, va_K.moved (u := U) (U := U.calling g mk a) (Vm.Alike.refl U.vm) q.2.1, eG_same (s := U) (U := U.calling g mk a) rfl q.2.2.1, q.2.2.2⟩
  have hr := va_runF (l := l) (e := e) (R := R) (below := below) (meth := meth) (H := H) (locs := locs) (cells := cells) (slots := slots) (g := F0 m pc ls st) (Ts := lw_all) (rest := rest) hat ⟨hx, hb, hml, hown, hts⟩ hM cw ⟨hbl, hrv, fun U hU hW => ⟨rfl, va_K.moved hW.alike hK, eG_moved hW hG, by rw [hU]; exact hCd⟩⟩ rfl hn hls hst hroom hdg hfit
  intro T hT X
  obtain ⟨v, st₀, t, T', L, h0, X', hL, e1, e2, ⟨hv, hh⟩, sg⟩ := hr T hT X
  cases hv
  obtain ⟨t2, a1, b1⟩ := kk T' (by rw [e1, hh, h0]) (Stand.forget X' (fun q h => (hL q h).elim))
  exact ⟨t2, sg t2 a1, b1⟩
end EB
/-! Objects.checkIndex -/
abbrev rm00 : Room := { frames := 0, cells := 0, slots := 0, locals := 0 }
theorem wJ6_check {l : Launch} {i n : Int32} (h1 : ¬ i < 0) (h2 : i < n) : sM l yJ6_checkIndex (ws_ yJ6_checkIndex cJ6_checkIndex 3 (some .int)) rm00 [.int i, .int n, .null] (some (.int i)) := by
  refine s_met (own := RJ6) (by decide) rfl (Nat.le_of_ble_eq_true rfl) (fun p e s m args below meth c hC => ?_)
  intro ls hl
  have hx := hC.1
  have hb := hC.2.1
  have hl : lv_has ls 3 [(0, .int i), (1, .int n), (2, .null)] := hl
  refine lv_iload_n hx hb dJ6_checkIndex_0 rfl (lv_at hl 0 rfl) ?_
  refine lv_if_lt (tgt := 9) hx hb dJ6_checkIndex_1 (by decide) (fun c_1 => absurd c_1 h1) (fun c_1 => ?_)
  refine lv_iload_n hx hb dJ6_checkIndex_4 rfl (lv_at hl 0 rfl) ?_
  refine lv_iload_n hx hb dJ6_checkIndex_5 rfl (lv_at hl 1 rfl) ?_
  refine lv_icmp_lt (tgt := 16) hx hb dJ6_checkIndex_6 (by decide) (fun c_2 => ?_) (fun c_2 => absurd h2 c_2)
  refine lv_iload_n hx hb dJ6_checkIndex_16 rfl (lv_at hl 0 rfl) ?_
  exact s_iret hC dJ6_checkIndex_17
abbrev rm01 : Room := { frames := 1, cells := 0, slots := 0, locals := 30 }
abbrev rm02 : Room := { frames := 2, cells := 0, slots := 0, locals := 60 }
theorem cdJ6_check : yJ6_checkIndex.cls ≠ "java/lang/invoke/MethodHandle" ∧ yJ6_checkIndex.cls ≠ "java/lang/invoke/VarHandle" ∧ (parseMethodDescriptor yJ6_checkIndex.desc).map (fun d => d.parameters.length) = some 3 := by decide +kernel
theorem cdJ13_check : yJ13_checkIndex.cls ≠ "java/lang/invoke/MethodHandle" ∧ yJ13_checkIndex.cls ≠ "java/lang/invoke/VarHandle" ∧ (parseMethodDescriptor yJ13_checkIndex.desc).map (fun d => d.parameters.length) = some 2 := by decide +kernel
theorem lkJ13_105 : GoodIn lw_all (va_wsS RJ13 105 yJ6_checkIndex (ws_ yJ6_checkIndex cJ6_checkIndex 3 (some .int))) := lw_S q678 q429 q133 q430
theorem wJ13_check {l : Launch} {i n : Int32} (h1 : ¬ i < 0) (h2 : i < n) : sM l yJ13_checkIndex (ws_ yJ13_checkIndex cJ13_checkIndex 2 (some .int)) rm01 [.int i, .int n] (some (.int i)) := by
  refine s_met (own := RJ13) (by decide) rfl (Nat.le_of_ble_eq_true rfl) (fun p e s m args below meth c hC => ?_)
  intro ls hl
  have hx := hC.1
  have hb := hC.2.1
  have hts := hC.2.2.2.2.2.2
  have hl : lv_has ls 2 [(0, .int i), (1, .int n)] := hl
  refine lv_iload_n hx hb dJ13_checkIndex_0 rfl (lv_at hl 0 rfl) ?_
  refine lv_iload_n hx hb dJ13_checkIndex_1 rfl (lv_at hl 1 rfl) ?_
  refine lv_null hx hb dJ13_checkIndex_2 ?_
  refine s_calli [.int i, .int n, .null] hC hl.1 (wJ6_check h1 h2) (va_cwS 3 hts lkJ13_105 rfl rfl rfl cdJ6_check ⟨Nat.le_of_ble_eq_true rfl, Nat.le_of_ble_eq_true rfl⟩) rfl rfl (lv_room (Nat.le_of_ble_eq_true rfl)) ⟨Nat.zero_le _, Nat.zero_le _⟩ dJ13_checkIndex_3 ?_
  exact s_iret hC dJ13_checkIndex_6
/-- the list at lo: n elements, kept in the array ea of cap places, which holds g -/
def LAt (E : XE) (lo ea cap : Nat) (mc n : Int32) (g : Nat → Option Nat) (H : Heap) : Prop := wOB E lo 16 [.int mc, .ref ea, .int n] H ∧ wAr E ea 5 cap g H
theorem wJ3_size {l : Launch} {E : XE} (hE : xCl E) {lo ea cap : Nat} {mc n : Int32} {g : Nat → Option Nat} : eM l E yJ3_size (ws_ yJ3_size cJ3_size 1 (some .int)) rm00 [.ref lo] (LAt E lo ea cap mc n g) (some (.int n)) := by
  refine e_met hE (own := RJ3) (by decide) rfl (Nat.le_of_ble_eq_true rfl) (fun p e s m args below meth c hC hA => ?_)
  intro ls hl
  have hx := hC.1.1
  have hb := hC.1.2.1
  have hl : lv_has ls 1 [(0, .ref lo)] := hl
  refine lv_aload_n hx hb dJ3_size_0 rfl (lv_at hl 0 rfl) ?_
  refine e_getW (k := 2) (D := RJ3) hC hA.1 in_J3 (ci := 16) rfl (by decide) q364 rfl rfl dJ3_size_1 ?_
  exact s_iret hC.1 dJ3_size_4
theorem wJ3_isEmpty {l : Launch} {E : XE} (hE : xCl E) {lo ea cap : Nat} {mc n : Int32} {g : Nat → Option Nat} : eM l E yJ3_isEmpty (ws_ yJ3_isEmpty cJ3_isEmpty 1 (some .boolean)) rm00 [.ref lo] (LAt E lo ea cap mc n g) (some (.int (if n = 0 then 1 else 0))) := by
  refine e_met hE (own := RJ3) (by decide) rfl (Nat.le_of_ble_eq_true rfl) (fun p e s m args below meth c hC hA => ?_)
  intro ls hl
  have hx := hC.1.1
  have hb := hC.1.2.1
  have hl : lv_has ls 1 [(0, .ref lo)] := hl
  refine lv_aload_n hx hb dJ3_isEmpty_0 rfl (lv_at hl 0 rfl) ?_
  refine e_getW (k := 2) (D := RJ3) hC hA.1 in_J3 (ci := 16) rfl (by decide) q364 rfl rfl dJ3_isEmpty_1 ?_
  refine lv_if_ne (tgt := 11) hx hb dJ3_isEmpty_4 (by decide) (fun c_1 => ?_) (fun c_1 => ?_)
  · rw [if_neg c_1]
    refine lv_iconst (v := 0) hx hb dJ3_isEmpty_11 (by decide) ?_
    exact s_zret (v := 0) hC.1 (by decide) dJ3_isEmpty_12
  · rw [if_pos c_1]
    refine lv_iconst (v := 1) hx hb dJ3_isEmpty_7 (by decide) ?_
    refine lv_goto (tgt := 12) hx hb dJ3_isEmpty_8 (by decide) ?_
    exact s_zret (v := 1) hC.1 (by decide) dJ3_isEmpty_12
theorem wJ3_elementData {l : Launch} {E : XE} (hE : xCl E) {lo ea cap x : Nat} {mc n i : Int32} {g : Nat → Option Nat} (h1 : ¬ i < 0) (h2 : i.toNatClampNeg < cap) (hg : g i.toNatClampNeg = some x) : eM l E yJ3_elementData (ws_ yJ3_elementData cJ3_elementData 2 (some (.object "java/lang/Object"))) rm00 [.ref lo, .int i] (LAt E lo ea cap mc n g) (some (.ref x)) := by
  refine e_met hE (own := RJ3) (by decide) rfl (Nat.le_of_ble_eq_true rfl) (fun p e s m args below meth c hC hA => ?_)
  intro ls hl
  have hx := hC.1.1
  have hb := hC.1.2.1
  have hl : lv_has ls 2 [(0, .ref lo), (1, .int i)] := hl
  refine lv_aload_n hx hb dJ3_elementData_0 rfl (lv_at hl 0 rfl) ?_
  refine e_getW (k := 1) (D := RJ3) hC hA.1 in_J3 (ci := 16) rfl (by decide) q363 rfl rfl dJ3_elementData_1 ?_
  refine lv_iload_n hx hb dJ3_elementData_4 rfl (lv_at hl 1 rfl) ?_
  refine e_aldW (t := 5) (t0 := 5) hC hA.2 rfl (fun h => ?_) dJ3_elementData_5 ?_
  · rcases h with h | h
    · exact h1 h
    · omega
  rw [hg]
  exact W.aret (rt := .object "java/lang/Object") hx hb hC.1.2.2.1 (Or.inl ⟨_, rfl⟩) (Or.inr ⟨_, rfl⟩) (fun t ht hW => ⟨rfl, ht⟩) (fun q h => by cases h) dJ3_elementData_6 hC.1.2.2.2.1
theorem cdJ3_elementData : yJ3_elementData.cls = RJ3 ∧ yJ3_elementData.cls ≠ "java/lang/invoke/MethodHandle" ∧ yJ3_elementData.cls ≠ "java/lang/invoke/VarHandle" ∧ (parseMethodDescriptor yJ3_elementData.desc).map (fun d => d.parameters.length) = some 1 := by decide +kernel
theorem lkJ3_118 : GoodIn lw_all (va_wsS RJ3 118 yJ13_checkIndex (ws_ yJ13_checkIndex cJ13_checkIndex 2 (some .int))) := lw_S q675 q676 q145 q677
theorem lkJ3_123 : GoodIn lw_all (wsV RJ3 123 RJ3 yJ3_elementData (ws_ yJ3_elementData cJ3_elementData 2 (some (.object "java/lang/Object")))) := lw_V q679 q680 q681 q130 q682
theorem wJ3_get {l : Launch} {E : XE} (hE : xCl E) {lo ea cap x : Nat} {mc n i : Int32} {g : Nat → Option Nat} (h1 : ¬ i < 0) (h3 : i < n) (h2 : i.toNatClampNeg < cap) (hg : g i.toNatClampNeg = some x) : eM l E yJ3_get (ws_ yJ3_get cJ3_get 2 (some (.object "java/lang/Object"))) rm02 [.ref lo, .int i] (LAt E lo ea cap mc n g) (some (.ref x)) := by
  refine e_met hE (own := RJ3) (by decide) rfl (Nat.le_of_ble_eq_true rfl) (fun p e s m args below meth c hC hA => ?_)
  intro ls hl
  have hx := hC.1.1
  have hb := hC.1.2.1
  have hts := hC.1.2.2.2.2.2.2
  have hl : lv_has ls 2 [(0, .ref lo), (1, .int i)] := hl
  refine lv_iload_n hx hb dJ3_get_0 rfl (lv_at hl 1 rfl) ?_
  refine lv_aload_n hx hb dJ3_get_1 rfl (lv_at hl 0 rfl) ?_
  refine e_getW (k := 2) (D := RJ3) hC hA.1 in_J3 (ci := 16) rfl (by decide) q364 rfl rfl dJ3_get_2 ?_
  refine s_calli [.int i, .int n] hC.1 hl.1 (wJ13_check h1 h3) (va_cwS 2 hts lkJ3_118 rfl rfl rfl cdJ13_check ⟨Nat.le_of_ble_eq_true rfl, Nat.le_of_ble_eq_true rfl⟩) rfl rfl (lv_room (Nat.le_of_ble_eq_true rfl)) ⟨Nat.zero_le _, Nat.zero_le _⟩ dJ3_get_5 ?_
  refine lv_pop hx hb dJ3_get_8 rfl ?_
  refine lv_aload_n hx hb dJ3_get_9 rfl (lv_at hl 0 rfl) ?_
  refine lv_iload_n hx hb dJ3_get_10 rfl (lv_at hl 1 rfl) ?_
  refine e_callV [.int i] lo hC hl.1 (wJ3_elementData hE h1 h2 hg) hA (e_recvW hC hA.1 (hE 16 _ rfl)) (cwV 1 hts lkJ3_123 rfl rfl rfl cdJ3_elementData ⟨Nat.le_of_ble_eq_true rfl, Nat.le_of_ble_eq_true rfl⟩) rfl rfl (lv_room (Nat.le_of_ble_eq_true rfl)) ⟨Nat.zero_le _, Nat.zero_le _⟩ dJ3_get_11 ?_
  exact W.aret (rt := .object "java/lang/Object") hx hb hC.1.2.2.1 (Or.inl ⟨_, rfl⟩) (Or.inr ⟨_, rfl⟩) (fun t ht hW => ⟨rfl, ht⟩) (fun q h => by cases h) dJ3_get_14 hC.1.2.2.2.1
theorem wJ15_intValue {l : Launch} {E : XE} (hE : xCl E) {a : Nat} {v : Int32} : eM l E yJ15_intValue (ws_ yJ15_intValue cJ15_intValue 1 (some .int)) rm00 [.ref a] (wOB E a 17 [.int v]) (some (.int v)) := by
  refine e_met hE (own := RJ15) (by decide) rfl (Nat.le_of_ble_eq_true rfl) (fun p e s m args below meth c hC hA => ?_)
  intro ls hl
  have hx := hC.1.1
  have hb := hC.1.2.1
  have hl : lv_has ls 1 [(0, .ref a)] := hl
  refine lv_aload_n hx hb dJ15_intValue_0 rfl (lv_at hl 0 rfl) ?_
  refine e_getW (k := 0) (D := RJ15) hC hA in_J15 (ci := 17) rfl (by decide) q810 rfl rfl dJ15_intValue_1 ?_
  exact s_iret hC.1 dJ15_intValue_4
