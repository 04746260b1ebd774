/-! Wrong: made (its Exception's part by the library's law), thrown -/
set_option maxRecDepth 100000
def bXN : String := "java/lang/Exception"
/-- a fresh object: nobody holds its monitor -/
def bMon (a : Nat) (H : Heap) : Prop := ∃ cell : Cell, H[a]? = some cell ∧ cell.monitor.owner = none ∧ cell.monitor.count = 0
section WR
variable {p : Program} {l : Launch} {e : Env} {R : Room} {s : State} {m : MethodId} {args : Array Value} {below : List Frame} {meth : Method} {c : Code} {Q : State → Prop} {E : XE} {A : Nat → Prop} {mn : String} {rt : Option FieldType} {ls : Array Slot}
set_option maxHeartbeats 1000000 in
theorem b_super {a : Nat} {f0 f1 f2 f3 f5 f6 f7 : Value} (hl : l.stackTraces = false) (hC : bC E A mn RX5 cX5_init 3 rt p s m args meth c) (hls : ls.size = 3) (hA : va_at E.1 E.2.1 (a, .inr (4, [f0, f1, f2, f3, .null, f5, f6, f7])) s.heap) (hmon : bMon a s.heap) (ha : bW A s.heap.size a) (hfr : 6 ≤ R.frames ∧ 100 ≤ R.locals)
    (kk : ∀ (H1 : Heap) (locs1 : List Loc) (w0 w1 w2 w3 w4 w5 w6 w7 : Value), va_at E.1 E.2.1 (a, .inr (4, [w0, w1, w2, w3, w4, w5, w6, w7])) H1 → H1.size = s.heap.size → (∀ q, q ≠ a → H1[q]? = s.heap[q]?) → va_S (bW A s.heap.size) s.heap H1 locs1 → W p l e R s m args below meth c H1 locs1 0 0 Q (F0 m 4 ls [])) : W p l e R s m args below meth c s.heap [] 0 0 Q (F0 m 1 ls [.ref a]) := by
  obtain ⟨⟨⟨hexec, hb, hr, hlocks, hml, hown, hts⟩, hK, hE, -⟩, hG, -⟩ := hC
  obtain ⟨aW, aN, aC, ad, -, -, -, -, -, -, ⟨t1, t2⟩, ⟨-, -, -, -, -, o6⟩⟩ := hG.2.2
  intro W hW X
  have htr : e.platform.stackTraces = false := (show e.platform.stackTraces = l.stackTraces by rw [X.admits.platform]).trans hl
  have howns : e.platform.frameOwnsMonitors = true := by rw [X.admits.platform]
  have hfin : e.platform.finalization = false := by rw [X.admits.platform]
  have hpl : e.platform.magicAccessors = ({} : Platform).magicAccessors := by rw [X.admits.platform]
  have lsU : (Cond.laysStatic "java/lang/Throwable" "UNASSIGNED_STACK" "[Ljava/lang/StackTraceElement;").before args s = true := vx_L.word t1.2
  have lsN : (Cond.laysStatic "java/lang/Throwable" "SUPPRESSED_SENTINEL" "Ljava/util/List;").before args s = true := vx_L.word t2.2
  have irU : (Cond.isRef (.static Bundle.tN "UNASSIGNED_STACK" Bundle.steD)).before args s = true := vx_isRefq t1.1
  have irN : (Cond.isRef (.static Bundle.tN "SUPPRESSED_SENTINEL" Bundle.listD)).before args s = true := vx_isRefq t2.1
  have hth : ∀ w ∈ Bundle.throwableAtoms, w.before args s = true := by
    intro w hw
    simp only [Bundle.throwableAtoms, List.mem_cons, List.not_mem_nil, or_false] at hw
    rcases hw with h | h | h | h | h | h | h | h | h | h | h | h | h | h | h | h | h | h | h | h | h | h | h | h <;> rw [h]
    all_goals first | exact lsU | exact lsN | exact hts _ q136 | exact hts _ q482 | exact hts _ q491 | exact hts _ q493 | exact hts _ q496 | exact hts _ q498 | exact hts _ q483 | exact hts _ q484 | exact hts _ q162 | exact hts _ q163 | exact hts _ q485 | exact hts _ q490 | exact hts _ q494 | exact hts _ q511 | exact hts _ q472 | exact hts _ q512 | exact hts _ q474 | exact hts _ q513 | exact hts _ q476 | exact hts _ q486 | exact hts _ q488 | exact hts _ q478
  have hch : ∀ w ∈ Bundle.chain0Atoms bXN [], w.before args s = true := by
    intro w hw
    simp only [Bundle.chain0Atoms, Bundle.passAtoms, List.mem_cons, List.not_mem_nil, or_false] at hw
    rcases hw with h | h | h | h | h <;> rw [h]
    · exact hts _ q503
    · exact hts _ q504
    · exact hts _ q505
    · exact hts _ q483
    · exact va_Nw.use rfl o6
  have hcls : Bundle.fit bXN = true := by decide +kernel
  obtain ⟨T, Z, L, LZ, Y⟩ := ThrowableC.of_atoms (args := args) howns hfin hpl hth
  obtain ⟨P1, Ps, hlen, L1, hLp, hP1m, hlink1, hlink⟩ := Bundle.chain0 (args := args) hpl Y.init0 [] bXN hcls (fun _ h => nomatch h) hch
  have hcell0 : xcl[4]? = some (RX5, TX5, 8) := rfl
  have hce := hE _ _ hcell0
  obtain ⟨hSl, hfoundX, kX, hkX, hord⟩ := hK.1 4 _ hce
  obtain ⟨r, h1, cell, q1, q2, q3, q4⟩ := hA
  have hr9 : r = (RX5, TX5, 8) := Option.some.inj (h1.symm.trans hce)
  subst hr9
  obtain ⟨cell', g1, hfree, hcount⟩ := hmon
  cases g1.symm.trans q1
  have hcellW : W.heap[a]? = some cell := by rw [hW]; exact q1
  have hsel0 : selectMethod e.platform s.vm cell.cls T.fill0 = .method T.fill0 := by
    obtain ⟨c2, r2, m2, z1, z2, z3, z4, -⟩ := Cond.selects_spec (hts _ q469)
    rw [q2]
    cases Option.some.inj (z1.symm.trans hfoundX)
    cases Option.some.inj (z2.symm.trans (State.methodFound?_of_named Y.fill0 (by decide)))
    cases Option.some.inj (z3.symm.trans Y.fill0)
    rw [Launch.admits_selectMethod X.admits]; exact z4
  have hselF : selectMethod e.platform s.vm cell.cls T.fill = .method T.fill := by
    obtain ⟨c2, r2, m2, z1, z2, z3, z4, -⟩ := Cond.selects_spec (hts _ q470)
    rw [q2]
    cases Option.some.inj (z1.symm.trans hfoundX)
    cases Option.some.inj (z2.symm.trans (State.methodFound?_of_named Y.fill (by decide)))
    cases Option.some.inj (z3.symm.trans Y.fill)
    rw [Launch.admits_selectMethod X.admits]; exact z4
  obtain ⟨cellS0, hcS0, hiss⟩ := Y.statics
  obtain ⟨u0, hu0⟩ := Cond.staticRefV Y.unassigned L.unassignedStatic L.statics hcS0 hiss irU
  obtain ⟨sen, hsen⟩ := Cond.staticRefV Y.sentinel L.sentinelStatic L.statics hcS0 hiss irN
  obtain ⟨ci198, i198, fB, hk198, hg198, ha198, hsB, -, hnB, htB, hffB⟩ := Cond.ownField (t := .object "java/lang/Object") Y.found L.cls (by decide +kernel) (hts _ q481) (hts _ q480) e.platform hpl
  have hcellS : W.heap[T.aS]? = some cellS0 := by rw [hW]; exact hcS0
  have hknownS : cellS0.vm ≠ .unknown := by
    intro hu
    rw [hu] at hiss
    cases hiss
  have hneS : T.aS ≠ a := by
    intro h9
    rw [← h9] at q1
    cases q1.symm.trans hcS0
    rw [q3] at hiss
    cases hiss
  obtain ⟨iM, hffM⟩ := Y.msg
  obtain ⟨tyC, dC, hdC, hdnC⟩ := Cond.laysAt hfoundX hkX Y.cause (hts _ q471)
  obtain ⟨tyS, dS, hdS, hdnS⟩ := Cond.laysAt hfoundX hkX Y.stack (hts _ q473)
  obtain ⟨tyP, dP, hdP, hdnP⟩ := Cond.laysAt hfoundX hkX Y.supp (hts _ q475)
  obtain ⟨tyB, dB, hdB, hdnB⟩ := Cond.laysAt hfoundX hkX hffB (hts _ q479)
  have bC := Cond.laysApart hdB hdC hdnB hdnC (by rw [hnB, Y.causeName]; decide)
  have bS := Cond.laysApart hdB hdS hdnB hdnS (by rw [hnB, Y.stackName]; decide)
  have bP := Cond.laysApart hdB hdP hdnB hdnP (by rw [hnB, Y.suppName]; decide)
  have slot : ∀ (k : Nat), k < 8 → ∀ (cf : ClassId) (kf : Class) (i : Nat) (f : Field), s.fieldFound? (TX5 k).1 (TX5 k).2.1 (TX5 k).2.2.1 = some (cf, kf, i, f) → cell.slots[f.slot]? = some (vp_V [f0, f1, f2, f3, .null, f5, f6, f7] k) := by
    intro k hk cf kf i f hf
    obtain ⟨cf', kf', fi', f', hi', hs'⟩ := hSl k hk
    cases hf.symm.trans hi'
    rw [hs']
    exact q4 k hk
  have tk : ∀ (f : Field) (v : Value), kX.instanceTypes[f.slot]? = some f.type → fits f.type v = true → (∃ w, cell.slots[f.slot]? = some w) → Takes s cell f v := by
    intro f v h1 h2 h3
    obtain ⟨w, h3⟩ := h3
    refine ⟨(Array.getElem?_eq_some_iff.mp h3).1, ?_⟩
    rw [q2, q3]
    simp [State.fitsSlot, State.slotType?, hkX, hord, h1, h2]
  have hskip : SkipFacts T e.platform s (fun u => u) u0 ((preparedCellV T.toThrowableT cell a u0 sen).withEntry W.cur) :=
    ⟨{ ci198 := ci198, i198 := i198, fBack := fB }, ⟨hk198, hg198, ha198, hsB⟩, by
      have := slot 4 (by decide) _ _ _ _ hffB
      simpa [preparedCellV, Cell.setSlot, Cell.withEntry, Array.getElem?_setIfInBounds, bC, bS, bP, bC.symm, bS.symm, bP.symm, vp_V] using this, fun _ _ => rfl⟩
  obtain ⟨tm, methC, cdC, kC, vm₁, hnC, -, -, -, -, -, -, -, hW₁, st1⟩ := Steps.initCold (tb := p.tables) (e := e) (below := below) (s := s) (U := W) X.here hexec X.warmed hpl hown (t := Bundle.init0 bXN) rfl rfl (Bundle.fit_spec hcls).2
    (hts _ q502) (hts _ q503) (bytes := Bundle.five) (maxL := 1) (hts _ q504)
    (f := F0 m 1 ls [.ref a]) rfl (a := a) (rest := []) rfl (by rw [hb]; exact dX5_init_1)
  cases Option.some.inj (hnC.symm.trans hP1m)
  have X₁ := X.noted hW₁
  have hPs : Ps = [] := List.length_eq_zero_iff.mp hlen
  subst hPs
  obtain ⟨vm₂, X₂, st2⟩ := X₁.ctorPlainOffV hexec (g := F0 m 1 ls []) rfl (by rw [hml]; exact hls) T L Z LZ (P1 :: [])
    (fun P hP => by rcases List.mem_cons.mp hP with rfl | hP; exact L1; exact hLp P hP) ⟨hlink1, hlink⟩ (u0 := u0) (sen := sen) (self := a) (cell := cell) (cellS := cellS0)
    hcellW (fun k h => by rw [q3] at h; cases h) (by rw [q3]; exact fun h => by cases h) hfree hcount hsel0 hselF hcellS hneS hknownS hu0 hsen
    (tk _ _ tyC (by rw [Y.causeType]; rfl) ⟨_, slot 0 (by decide) _ _ _ _ Y.cause⟩) (tk _ _ tyS (by rw [Y.stackType]; exact fits_refV_array _ u0) ⟨_, slot 1 (by decide) _ _ _ _ Y.stack⟩) (tk _ _ tyP (by rw [Y.suppType]; exact fits_refV_object _ sen) ⟨_, slot 2 (by decide) _ _ _ _ Y.supp⟩) Y.objLocals hskip htr [] (by rw [hb]; exact dX5_init_1)
    (by show 1 + 2 < R.frames; omega) (by show 0 + 0 + (13 * 1 + 41) ≤ R.locals; omega)
  have hlt : a < W.heap.size := (Array.getElem?_eq_some_iff.mp hcellW).1
  generalize hce9 : (preparedCellV T.toThrowableT cell a u0 sen).setSlot T.fStack.slot u0.v = ce at X₂ st2
  have hsz9 : ce.slots.size = cell.slots.size := by rw [← hce9]; simp [preparedCellV, Cell.setSlot]
  have hcl9 : ce.cls = cell.cls := by rw [← hce9]; rfl
  have hvm9 : ce.vm = cell.vm := by rw [← hce9]; rfl
  have hheap : (((W.setVm vm₁).setVm vm₂).setCell a ce).heap = s.heap.setIfInBounds a ce := by rw [← hW]; rfl
  have hltS : a < s.heap.size := by rw [← hW]; exact hlt
  have inS : ∀ k, k < 8 → ∃ w, ce.slots[E.1.2 4 k]? = some w := by
    intro k hk
    have h9 := (Array.getElem?_eq_some_iff.mp (q4 k hk)).1
    exact ⟨ce.slots[E.1.2 4 k]'(by rw [hsz9]; exact h9), Array.getElem?_eq_getElem _⟩
  obtain ⟨w0, i0⟩ := inS 0 (by decide)
  obtain ⟨w1, i1⟩ := inS 1 (by decide)
  obtain ⟨w2, i2⟩ := inS 2 (by decide)
  obtain ⟨w3, i3⟩ := inS 3 (by decide)
  obtain ⟨w4, i4⟩ := inS 4 (by decide)
  obtain ⟨w5, i5⟩ := inS 5 (by decide)
  obtain ⟨w6, i6⟩ := inS 6 (by decide)
  obtain ⟨w7, i7⟩ := inS 7 (by decide)
  have oq : ∀ q : Nat, q ≠ a → (s.heap.setIfInBounds a ce)[q]? = s.heap[q]? := fun q hq => by simp [Array.getElem?_setIfInBounds, Ne.symm hq]
  obtain ⟨t, a1, b1⟩ := kk (s.heap.setIfInBounds a ce) _ w0 w1 w2 w3 w4 w5 w6 w7 ⟨_, hce, ce, by simp [Array.getElem?_setIfInBounds, hltS], by rw [hcl9]; exact q2, by rw [hvm9]; exact q3, fun k hk => by
      match k, hk with
      | 0, _ => exact i0
      | 1, _ => exact i1
      | 2, _ => exact i2
      | 3, _ => exact i3
      | 4, _ => exact i4
      | 5, _ => exact i5
      | 6, _ => exact i6
      | 7, _ => exact i7
      | k + 8, h => exact absurd (show k + 8 < 8 from h) (by omega)⟩ (by simp) oq ⟨by simp, fun q h1 h2 => oq q (fun e9 => h2 (by rw [e9]; exact ha)), fun q hq => by
      simp only [List.nil_append, List.mem_cons, List.not_mem_nil, or_false] at hq
      rcases hq with rfl | rfl | rfl | rfl <;> exact ha⟩ _ hheap X₂
  refine ⟨t, st1 _ (fun acts => ?_), b1⟩
  rw [doInvoke_state]
  exact st2 _ a1
end WR
theorem wX5_init {l : Launch} {E : XE} {a : Nat} {x y : Int32} {f0 f1 f2 f3 f5 f6 f7 : Value} (hl0 : l.stackTraces = false) : bM l E (b1 a) yX5_init (ws_ yX5_init cX5_init 3 none) { frames := 8, cells := 0, slots := 0, locals := 140 } [.ref a, .int x, .int y] (fun H => va_at E.1 E.2.1 (a, .inr (4, [f0, f1, f2, f3, .null, f5, f6, f7])) H ∧ bMon a H) (fun _ o H => o = none ∧ ∃ w0 w1 w2 w3 w4 w5, va_at E.1 E.2.1 (a, .inr (4, [w0, w1, w2, w3, w4, w5, .int x, .int y])) H) := by
  refine b_met (own := RX5) (mn := "<init>") (by decide) rfl rfl (Nat.le_of_ble_eq_true rfl) (fun p e s m args below meth c hC hA ls hl hS => ?_)
  obtain ⟨hA, hM⟩ := hA
  have hx := hC.1.1.1
  have hb := hC.1.1.2.1
  have hl : lv_has ls 3 [(0, .ref a), (1, .int x), (2, .int y)] := hl
  refine lv_aload_n hx hb dX5_init_0 rfl (lv_at hl 0 rfl) ?_
  refine b_super hl0 hC hl.1 hA hM (Or.inl rfl) ⟨Nat.le_of_ble_eq_true rfl, Nat.le_of_ble_eq_true rfl⟩ (fun H1 locs1 w0 w1 w2 w3 w4 w5 w6 w7 hA1 hz1 hk1 hS1 => ?_)
  refine lv_aload_n hx hb dX5_init_4 rfl (lv_at hl 0 rfl) ?_
  refine lv_iload_n hx hb dX5_init_5 rfl (lv_at hl 1 rfl) ?_
  refine b_putF (k := 6) (ty := .int) hC hS1 hA1 (Or.inl rfl) in_X5 tyX5 tyX5_ok nmX5 (ci := 4) rfl (by decide) q506 rfl rfl (by decide +kernel) rfl rfl (Nat.le_of_ble_eq_true rfl) dX5_init_6 (fun H2 locs2 hA2 hz2 hk2 hS2 => ?_)
  refine lv_aload_n hx hb dX5_init_9 rfl (lv_at hl 0 rfl) ?_
  refine lv_iload_n hx hb dX5_init_10 rfl (lv_at hl 2 rfl) ?_
  refine b_putF (k := 7) (ty := .int) hC hS2 hA2 (Or.inl rfl) in_X5 tyX5 tyX5_ok nmX5 (ci := 4) rfl (by decide) q508 rfl rfl (by decide +kernel) rfl rfl (Nat.le_of_ble_eq_true rfl) dX5_init_11 (fun H3 locs3 hA3 hz3 hk3 hS3 => ?_)
  exact b_vret hC hS3 ⟨Nat.le_refl _, Nat.le_refl _⟩ ⟨rfl, w0, w1, w2, w3, w4, w5, hA3⟩ dX5_init_14
