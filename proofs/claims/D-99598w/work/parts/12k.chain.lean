/-! Chain, Text, Tokens: made; Chain.add, itself -/
set_option maxRecDepth 100000
section BLI
variable {p : Program} {l : Launch} {e : Env} {R : Room} {s : State} {m : MethodId} {args : Array Value} {below : List Frame} {meth : Method} {c : Code} {H : Heap} {locs : List Loc} {cells slots : Nat} {Q : State → Prop} {E : XE} {A : Nat → Prop} {mn own : String} {cc : ByteArray} {nL : Nat} {rt : Option FieldType} {ls : Array Slot} {pc : Nat} {rest : List Value}
/-- new ArrayList(), whole: new, dup, invokespecial -/
theorem b_newList {i1 i2 : Nat} (hC : bC E A mn own cc nL rt p s m args meth c) (hS : va_S (bW A s.heap.size) s.heap H locs) (hls : ls.size = nL) (q1 : Cond.classLink own i1 RJ3 ∈ lw_all) (q2 : Cond.methodLink own i2 yJ3_init ∈ lw_all) (hnP : ∀ q, s.heap.size ≤ q → ¬ E.2.2.2.2.1 q) (hcells : cells + 1 ≤ R.cells) (hslots : slots + 3 ≤ R.slots) (hroom : 2 * (F0 m pc ls rest).monitorRoom + (rest.map fun v => v.category).sum ≤ 6) (hfr : 4 ≤ R.frames ∧ 120 ≤ R.locals) (hd1 : decode cc pc = .ok (.new i1, 3)) (hd2 : decode cc (pc + 3) = .ok (.dup, 1)) (hd3 : decode cc (pc + 4) = .ok (.invokespecial i2, 3))
    (kk : ∀ (H1 : Heap) (locs1 : List Loc), va_at E.1 E.2.1 (H.size, .inr (16, [.int 0, .ref (bD E), .int 0])) H1 → H.size + 1 ≤ H1.size → (∀ q, q < H.size → H1[q]? = H[q]?) → va_S (bW A s.heap.size) s.heap H1 locs1 → W p l e R s m args below meth c H1 locs1 (cells + 1) (slots + 3) Q (F0 m (pc + 7) ls (.ref H.size :: rest))) : W p l e R s m args below meth c H locs cells slots Q (F0 m pc ls rest) := by
  have hx := hC.1.1.1
  have hb := hC.1.1.2.1
  have hts := hC.1.1.2.2.2.2.2.2
  refine b_new (fs := [.int 0, .null, .int 0]) hC hS in_J3 tyJ3 tyJ3_ok q1 q350 q130 (ci := 16) rfl (by decide +kernel) hcells hslots hd1 (fun H1 hA1 hz1 hk1 hS1 => ?_)
  refine lv_dup hx hb hd2 rfl ?_
  refine b_callI [] H.size hC hS1 hls (wJ3_init (a := H.size)) (fun q hq => by rw [hq]; exact hnP _ hS.1) hA1 (cwI 0 hts (lw_meth q353) rfl rfl rfl (hts _ q130) (hts _ q2) (hts _ q352) rfl (by decide +kernel) ⟨hfr.1, by show 8 + (1 + 11) + 90 ≤ R.locals; omega⟩) rfl rfl (by
    show 0 + (Value.category (.ref H.size) + (rest.map fun v => v.category).sum) ≤ 8
    have h9 : 2 * (F0 m pc ls rest).monitorRoom = 0 := rfl
    have h8 : Value.category (.ref H.size) = 1 := rfl
    omega) ⟨hcells, hslots⟩ (fun q hq => by rw [hq]; exact Or.inr hS.1) hd3 (fun o H2 locs2 hPo hz2 hk2 hS2 => ?_)
  obtain ⟨rfl, hA2⟩ := hPo
  exact kk H2 locs2 hA2 (by omega) (fun q hq => by rw [hk2 q (by omega) (fun h => by omega), hk1 q hq]) hS2
end BLI
/-- a chain at a: its first, its two lists of n elements each -/
def ChAt (E : XE) (a x l1 l2 ea1 ea2 n cap : Nat) (mc1 mc2 : Int32) (g1 g2 : Nat → Option Nat) (H : Heap) : Prop :=
  va_at E.1 E.2.1 (a, .inr (5, [.ref x, .ref l1, .ref l2])) H ∧ bLst E l1 n cap ea1 mc1 g1 H ∧ bLst E l2 n cap ea2 mc2 g2 H ∧ n ≤ cap ∧
  (a ≠ l1 ∧ a ≠ l2 ∧ l1 ≠ l2 ∧ l1 ≠ ea2 ∧ l2 ≠ ea1 ∧ a ≠ ea1 ∧ a ≠ ea2 ∧ (10 ≤ cap → ea1 ≠ ea2)) ∧
  (∀ i, i < n → ∀ y, g1 i = some y → y ≠ l2 ∧ y ≠ a ∧ (10 ≤ cap → y ≠ ea1 ∧ y ≠ ea2)) ∧ ∀ i, i < n → ∀ y, g2 i = some y → E.2.2.2.2.1 y
theorem bLst.kept {E : XE} {lo n cap ea : Nat} {mc : Int32} {g : Nat → Option Nat} {H H1 : Heap} (h : bLst E lo n cap ea mc g H) (k1 : H1[lo]? = H[lo]?) (k2 : 10 ≤ cap → H1[ea]? = H[ea]?) (k3 : ∀ i, i < n → ∀ y, g i = some y → H1[y]? = H[y]?) : bLst E lo n cap ea mc g H1 := by
  obtain ⟨h1, h2, h3, h4⟩ := h
  refine ⟨h1.kept k1, h2, ?_, fun i hi y hy => ⟨(h4 i hi y hy).1.kept (k3 i hi y hy), (h4 i hi y hy).2⟩⟩
  rcases h3 with h3 | ⟨h3, h5⟩
  · exact Or.inl h3
  · exact Or.inr ⟨h3, h5.kept (k2 h3)⟩
theorem bAdd.lst {E : XE} {sz lo n cap ea x : Nat} {mc : Int32} {g : Nat → Option Nat} {H : Heap} (hn : n ≤ cap) (hc : cap = 0 ∨ 10 ≤ cap) (hx : bEl E x H) (hxl : x ≠ lo) (hel : ∀ i, i < n → ∀ y, g i = some y → bEl E y H ∧ y ≠ lo) (h : bAdd E sz lo n cap ea x mc g H) : ∃ (ea1 : Nat) (g1 : Nat → Option Nat), bLst E lo (n + 1) (bCap n cap) ea1 mc g1 H ∧ g1 n = some x ∧ (∀ i, i < n → g1 i = g i) ∧ ((n < cap ∧ ea1 = ea) ∨ sz ≤ ea1) ∧ 10 ≤ bCap n cap ∧ n + 1 ≤ bCap n cap := by
  obtain ⟨ea1, g1, h1, h2, h3, h4, h5, h6⟩ := h
  have h7 : 10 ≤ bCap n cap := by
    unfold bCap
    split
    · omega
    · split <;> omega
  refine ⟨ea1, g1, ⟨h2, h1, Or.inr ⟨h7, h3⟩, fun i hi y hy => ?_⟩, h4, h5, h6, h7, bCap_lt hn hc⟩
  by_cases e : i = n
  · subst e
    rw [h4] at hy
    cases hy
    exact ⟨hx, hxl⟩
  · exact hel i (by omega) y (by rw [← h5 i (by omega)]; exact hy)
theorem wX6_add {l : Launch} {E : XE} {a x l1 l2 ea1 ea2 n cap x1 k : Nat} {mc1 mc2 sg : Int32} {g1 g2 : Nat → Option Nat} (hk : k < 256) (hsg : vb_c k = sg) (hcap : cap ≤ 20000) : bM l E (fun q => q = l1 ∨ q = l2 ∨ (10 ≤ cap ∧ (q = ea1 ∨ q = ea2))) yX6_add (ws_ yX6_add cX6_add 3 none) { frames := 7, cells := (bCst n cap).1 + (bCst n cap).1, slots := (bCst n cap).2 + (bCst n cap).2, locals := 280 } [.ref a, .int sg, .ref x1] (fun H => ChAt E a x l1 l2 ea1 ea2 n cap mc1 mc2 g1 g2 H ∧ bEl E x1 H ∧ x1 ≠ a ∧ x1 ≠ l1 ∧ x1 ≠ l2 ∧ (10 ≤ cap → x1 ≠ ea1 ∧ x1 ≠ ea2)) (fun sz o H => o = none ∧ ∃ (ea1' ea2' b : Nat) (g1' g2' : Nat → Option Nat), ChAt E a x l1 l2 ea1' ea2' (n + 1) (bCap n cap) (mc1 + 1) (mc2 + 1) g1' g2' H ∧ g1' n = some x1 ∧ (∀ i, i < n → g1' i = g1 i) ∧ (g2' n = some b ∧ E.2.2.2.2.1 b ∧ wOB E b 17 [.int sg] H) ∧ (∀ i, i < n → g2' i = g2 i) ∧ (ea1' = ea1 ∨ sz ≤ ea1') ∧ (ea2' = ea2 ∨ sz ≤ ea2')) := by
  refine b_met (own := RX6) (mn := "add") (by decide) rfl rfl (Nat.le_of_ble_eq_true rfl) (fun p e s m args below meth c hC hA ls hl hS => ?_)
  have hx := hC.1.1.1
  have hb := hC.1.1.2.1
  have hts := hC.1.1.2.2.2.2.2.2
  have hl : lv_has ls 3 [(0, .ref a), (1, .int sg), (2, .ref x1)] := hl
  obtain ⟨⟨c1, c2, c3, c4, ⟨n1, n2, n3, n4, n5, n6, n7, n8⟩, c5, c6⟩, hX, x2, x3, x4, x5⟩ := hA
  have hnP := hC.2.2.1
  have hc10 : cap = 0 ∨ 10 ≤ cap := by rcases c2.2.2.1 with ⟨h1, -⟩ | ⟨h1, -⟩; exact Or.inl h1; exact Or.inr h1
  refine lv_aload_n hx hb dX6_add_0 rfl (lv_at hl 0 rfl) ?_
  refine e_get (k := 2) (D := RX6) hC.1 c1 in_X6 (ci := 5) rfl (by decide) q782 rfl rfl dX6_add_1 ?_
  refine lv_iload_n hx hb dX6_add_4 rfl (lv_at hl 1 rfl) ?_
  refine b_callS [.int sg] hC hS hl.1 (wJ15_valueOf hk hsg) (fun _ h => h.elim) trivial (va_cwS 1 hts (lw_S q794 q795 q153 q796) rfl rfl rfl (by decide +kernel) ⟨Nat.le_of_ble_eq_true rfl, Nat.le_of_ble_eq_true rfl⟩) rfl rfl (lv_room (Nat.le_of_ble_eq_true rfl)) ⟨Nat.zero_le _, Nat.zero_le _⟩ (fun _ h => h.elim) dX6_add_5 (fun o H1 locs1 hPo hz1 hk1 hS1 => ?_)
  obtain ⟨b, rfl, hbP, hbO⟩ := hPo
  have ka : ∀ q, q < s.heap.size → H1[q]? = s.heap[q]? := fun q hq => hk1 q hq (fun h => h)
  have bElB : bEl E b H1 := ⟨17, _, _, rfl, List.mem_of_getElem? (i := 11) rfl, hbO⟩
  have l2lt : l2 < s.heap.size := c3.1.lt
  have l1lt : l1 < s.heap.size := c2.1.lt
  have ealt : ∀ {ea : Nat} {lo : Nat} {mc : Int32} {g : Nat → Option Nat}, bLst E lo n cap ea mc g s.heap → 10 ≤ cap → ea < s.heap.size := by
    intro ea lo mc g h h9
    rcases h.2.2.1 with ⟨h1, -⟩ | ⟨-, h1⟩
    · omega
    · exact h1.lt
  have c2' : bLst E l1 n cap ea1 mc1 g1 H1 := c2.kept (ka _ l1lt) (fun h => ka _ (ealt c2 h)) (fun i hi y hy => ka _ (c2.2.2.2 i hi y hy).1.lt)
  have c3' : bLst E l2 n cap ea2 mc2 g2 H1 := c3.kept (ka _ l2lt) (fun h => ka _ (ealt c3 h)) (fun i hi y hy => ka _ (c3.2.2.2 i hi y hy).1.lt)
  refine b_callV [.ref b] l2 hC hS1 hl.1 (wJ3_add (lo := l2) (ea := ea2) (mc := mc2) (g := g2) (x := b) c4 hcap) (fun q hq => hnP q (by rcases hq with h | ⟨h, h9⟩; exact Or.inr (Or.inl h); exact Or.inr (Or.inr ⟨h, Or.inr h9⟩))) ⟨c3', bElB, fun h => hnP l2 (Or.inr (Or.inl rfl)) (by rw [← h]; exact hbP), fun h9 h => hnP ea2 (Or.inr (Or.inr ⟨h9, Or.inr rfl⟩)) (by rw [← h]; exact hbP)⟩ (e_recv hC.1 c3'.1 (hC.1.2.2.1 16 _ rfl)) (cwV 1 hts (lw_V q814 q606 q607 q130 q608) rfl rfl rfl (by decide +kernel) ⟨Nat.le_of_ble_eq_true rfl, Nat.le_of_ble_eq_true rfl⟩) rfl rfl (lv_room (Nat.le_of_ble_eq_true rfl)) ⟨by show 0 + 0 + (bCst n cap).1 ≤ (bCst n cap).1 + (bCst n cap).1; omega, by show 0 + 0 + (bCst n cap).2 ≤ (bCst n cap).2 + (bCst n cap).2; omega⟩ (fun q hq => by rcases hq with h | ⟨h, h9⟩; exact Or.inl (Or.inr (Or.inl h)); exact Or.inl (Or.inr (Or.inr ⟨h, Or.inr h9⟩))) dX6_add_8 (fun o H2 locs2 hPo hz2 hk2 hS2 => ?_)
  obtain ⟨rfl, hAdd2⟩ := hPo
  have kb : ∀ q, q < H1.size → q ≠ l2 → (10 ≤ cap → q ≠ ea2) → H2[q]? = H1[q]? := fun q h1 h2 h3 => hk2 q h1 (fun h => by rcases h with h | ⟨h, h9⟩; exact h2 h; exact h3 h h9)
  have pne : ∀ y, E.2.2.2.2.1 y → y ≠ l1 ∧ y ≠ l2 ∧ (10 ≤ cap → y ≠ ea1 ∧ y ≠ ea2) := fun y hy => ⟨fun h => hnP l1 (Or.inl rfl) (by rw [← h]; exact hy), fun h => hnP l2 (Or.inr (Or.inl rfl)) (by rw [← h]; exact hy), fun h9 => ⟨fun h => hnP ea1 (Or.inr (Or.inr ⟨h9, Or.inl rfl⟩)) (by rw [← h]; exact hy), fun h => hnP ea2 (Or.inr (Or.inr ⟨h9, Or.inr rfl⟩)) (by rw [← h]; exact hy)⟩⟩
  have cell1 : ∀ i, i < n → ∀ y, g1 i = some y → y < s.heap.size := fun i hi y hy => (c2.2.2.2 i hi y hy).1.lt
  have cell2 : ∀ i, i < n → ∀ y, g2 i = some y → y < s.heap.size := fun i hi y hy => (c3.2.2.2 i hi y hy).1.lt
  have alt : a < s.heap.size := c1.lt
  have x1lt : x1 < s.heap.size := hX.lt
  obtain ⟨ea2', g2', d1, d2, d3, d4, d5, d6⟩ := hAdd2.lst c4 hc10 (bElB.kept (kb b bElB.lt (pne b hbP).2.1 (fun h => ((pne b hbP).2.2 h).2))) (pne b hbP).2.1 (fun i hi y hy => ⟨(c3'.2.2.2 i hi y hy).1.kept (kb y (by have := cell2 i hi y hy; omega) (pne y (c6 i hi y hy)).2.1 (fun h => ((pne y (c6 i hi y hy)).2.2 h).2)), (c3'.2.2.2 i hi y hy).2⟩)
  have hbO2 : wOB E b 17 [.int sg] H2 := hbO.kept (kb b bElB.lt (pne b hbP).2.1 (fun h => ((pne b hbP).2.2 h).2))
  have c1b : va_at E.1 E.2.1 (a, .inr (5, [.ref x, .ref l1, .ref l2])) H2 := (c1.kept (ka a alt)).kept (kb a (by show a < H1.size; omega) n2 (fun _ => n7))
  have c2b : bLst E l1 n cap ea1 mc1 g1 H2 := c2'.kept (kb _ (by omega) n3 (fun _ => n4)) (fun h => kb _ (by have := ealt c2 h; omega) (Ne.symm n5) (fun h9 => n8 h9)) (fun i hi y hy => kb _ (by have := cell1 i hi y hy; omega) (c5 i hi y hy).1 (fun h9 => ((c5 i hi y hy).2.2 h9).2))
  have hXb : bEl E x1 H2 := (hX.kept (ka x1 x1lt)).kept (kb x1 (by omega) x4 (fun h9 => (x5 h9).2))
  refine lv_pop hx hb dX6_add_11 rfl ?_
  refine lv_aload_n hx hb dX6_add_12 rfl (lv_at hl 0 rfl) ?_
  refine e_get (k := 1) (D := RX6) hC.1 c1b in_X6 (ci := 5) rfl (by decide) q781 rfl rfl dX6_add_13 ?_
  refine lv_aload_n hx hb dX6_add_16 rfl (lv_at hl 2 rfl) ?_
  refine b_callV [.ref x1] l1 hC hS2 hl.1 (wJ3_add (lo := l1) (ea := ea1) (mc := mc1) (g := g1) (x := x1) c4 hcap) (fun q hq => hnP q (by rcases hq with h | ⟨h, h9⟩; exact Or.inl h; exact Or.inr (Or.inr ⟨h, Or.inl h9⟩))) ⟨c2b, hXb, x3, fun h9 => (x5 h9).1⟩ (e_recv hC.1 c2b.1 (hC.1.2.2.1 16 _ rfl)) (cwV 1 hts (lw_V q814 q606 q607 q130 q608) rfl rfl rfl (by decide +kernel) ⟨Nat.le_of_ble_eq_true rfl, Nat.le_of_ble_eq_true rfl⟩) rfl rfl (lv_room (Nat.le_of_ble_eq_true rfl)) ⟨by show 0 + 0 + (bCst n cap).1 + (bCst n cap).1 ≤ (bCst n cap).1 + (bCst n cap).1; omega, by show 0 + 0 + (bCst n cap).2 + (bCst n cap).2 ≤ (bCst n cap).2 + (bCst n cap).2; omega⟩ (fun q hq => by rcases hq with h | ⟨h, h9⟩; exact Or.inl (Or.inl h); exact Or.inl (Or.inr (Or.inr ⟨h, Or.inl h9⟩))) dX6_add_17 (fun o H3 locs3 hPo hz3 hk3 hS3 => ?_)
  obtain ⟨rfl, hAdd1⟩ := hPo
  have kc : ∀ q, q < H2.size → q ≠ l1 → (10 ≤ cap → q ≠ ea1) → H3[q]? = H2[q]? := fun q h1 h2 h3 => hk3 q h1 (fun h => by rcases h with h | ⟨h, h9⟩; exact h2 h; exact h3 h h9)
  obtain ⟨ea1', g1', f1, f2, f3, f4, f5, f6⟩ := hAdd1.lst c4 hc10 (hXb.kept (kc x1 hXb.lt x3 (fun h9 => (x5 h9).1))) x3 (fun i hi y hy => ⟨(c2b.2.2.2 i hi y hy).1.kept (hk3 y (by have := cell1 i hi y hy; omega) (fun h => by
    rcases h with h | ⟨h, h9⟩
    · exact (c2b.2.2.2 i hi y hy).2 h
    · exact ((c5 i hi y hy).2.2 h).1 h9)), (c2b.2.2.2 i hi y hy).2⟩)
  have e2lt : 10 ≤ cap → ea2 < s.heap.size := fun h => ealt c3 h
  have e1lt : 10 ≤ cap → ea1 < s.heap.size := fun h => ealt c2 h
  have e2in : ea2' < H2.size := by
    rcases d1.2.2.1 with ⟨h1, -⟩ | ⟨-, h1⟩
    · omega
    · exact h1.lt
  have q2 : ∀ q, q < s.heap.size → (10 ≤ cap → q ≠ ea2) → q ≠ ea2' := by
    intro q h1 h2
    rcases d4 with ⟨h3, h4⟩ | h3
    · rw [h4]; exact h2 (by omega)
    · omega
  have q1 : ∀ q, q < H2.size → (10 ≤ cap → q ≠ ea1) → q ≠ ea1' := by
    intro q h1 h2
    rcases f4 with ⟨h3, h4⟩ | h3
    · rw [h4]; exact h2 (by omega)
    · omega
  have ea2ne1 : ea2' ≠ l1 := Ne.symm (q2 l1 l1lt (fun _ => n4))
  have ea2ne2 : 10 ≤ cap → ea2' ≠ ea1 := fun h => Ne.symm (q2 ea1 (e1lt h) (fun h9 => n8 h9))
  refine lv_pop hx hb dX6_add_20 rfl ?_
  refine b_vret hC hS3 ⟨by show 0 + 0 + (bCst n cap).1 + (bCst n cap).1 ≤ (bCst n cap).1 + (bCst n cap).1; omega, by show 0 + 0 + (bCst n cap).2 + (bCst n cap).2 ≤ (bCst n cap).2 + (bCst n cap).2; omega⟩ ⟨rfl, ea1', ea2', b, g1', g2', ⟨c1b.kept (kc a (by show a < H2.size; omega) n1 (fun _ => n6)), f1, ?_, f6, ⟨n1, n2, n3, q2 l1 l1lt (fun _ => n4), q1 l2 (by omega) (fun _ => n5), q1 a (by omega) (fun _ => n6), q2 a alt (fun _ => n7), fun _ => Ne.symm (q1 ea2' e2in ea2ne2)⟩, fun i hi y hy => ?_, fun i hi y hy => ?_⟩, f2, f3, ⟨d2, hbP, hbO2.kept (kc b hbO2.lt (pne b hbP).1 (fun h => ((pne b hbP).2.2 h).1))⟩, d3, ?_, ?_⟩ dX6_add_21
  · refine d1.kept (kc l2 (by omega) (Ne.symm n3) (fun _ => n5)) (fun _ => kc ea2' e2in ea2ne1 ea2ne2) (fun i hi y hy => ?_)
    have hy9 : E.2.2.2.2.1 y := by
      by_cases e9 : i = n
      · subst e9; rw [d2] at hy; cases hy; exact hbP
      · exact c6 i (by omega) y (by rw [← d3 i (by omega)]; exact hy)
    exact kc y (d1.2.2.2 i hi y hy).1.lt (pne y hy9).1 (fun h => ((pne y hy9).2.2 h).1)
  · by_cases e9 : i = n
    · subst e9
      rw [f2] at hy
      cases hy
      exact ⟨x4, x2, fun _ => ⟨q1 x1 (by omega) (fun h => (x5 h).1), q2 x1 x1lt (fun h => (x5 h).2)⟩⟩
    · have hy' : g1 i = some y := by rw [← f3 i (by omega)]; exact hy
      have z := c5 i (by omega) y hy'
      have z2 := cell1 i (by omega) y hy'
      exact ⟨z.1, z.2.1, fun _ => ⟨q1 y (by omega) (fun h => (z.2.2 h).1), q2 y z2 (fun h => (z.2.2 h).2)⟩⟩
  · by_cases e9 : i = n
    · subst e9; rw [d2] at hy; cases hy; exact hbP
    · exact c6 i (by omega) y (by rw [← d3 i (by omega)]; exact hy)
  · rcases f4 with ⟨-, h⟩ | h
    · exact Or.inl h
    · exact Or.inr (by omega)
  · rcases d4 with ⟨-, h⟩ | h
    · exact Or.inl h
    · exact Or.inr (by omega)
/-- new cells are none of P's -/
def bN (E : XE) (H : Heap) : Prop := ∀ q, H.size ≤ q → ¬ E.2.2.2.2.1 q
theorem wX6_init {l : Launch} {E : XE} {a x : Nat} {o0 o1 o2 : Value} : bM l E (b1 a) yX6_init (ws_ yX6_init cX6_init 2 none) { frames := 5, cells := 2, slots := 6, locals := 180 } [.ref a, .ref x] (fun H => va_at E.1 E.2.1 (a, .inr (5, [o0, o1, o2])) H ∧ bN E H) (fun sz o H => o = none ∧ ∃ l2, sz < l2 ∧ ChAt E a x sz l2 (bD E) (bD E) 0 0 0 0 (fun _ => none) (fun _ => none) H) := by
  refine b_met (own := RX6) (mn := "<init>") (by decide) rfl rfl (Nat.le_of_ble_eq_true rfl) (fun p e s m args below meth c hC hA ls hl hS => ?_)
  obtain ⟨hA, hN⟩ := hA
  have hx := hC.1.1.1
  have hb := hC.1.1.2.1
  have hml := hC.1.1.2.2.2.2.1
  have hown := hC.1.1.2.2.2.2.2.1
  have hts := hC.1.1.2.2.2.2.2.2
  have hl : lv_has ls 2 [(0, .ref a), (1, .ref x)] := hl
  obtain ⟨aW, aN, aC, ad, ⟨d1, d2, d3⟩, -⟩ := hC.2.1.2.2
  have hDa : a ≠ bD E := fun h => hC.2.2.1 a rfl (by rw [h]; exact d2)
  have hDn : bD E < s.heap.size := Nat.not_le.mp fun h => hN _ h d2
  have alt := hA.lt
  refine lv_aload_n hx hb dX6_init_0 rfl (lv_at hl 0 rfl) ?_
  refine W.objInit hx hb hown (hts _ q777) (hts _ q162) (hts _ q163) rfl (by rw [hml]; exact hl.1) rfl dX6_init_1 (Nat.le_of_ble_eq_true rfl) (Nat.le_of_ble_eq_true rfl) ?_
  refine lv_aload_n hx hb dX6_init_4 rfl (lv_at hl 0 rfl) ?_
  refine b_newList hC hS hl.1 q778 q779 hN (by show 0 + 1 ≤ 2; omega) (by show 0 + 3 ≤ 6; omega) (Nat.le_of_ble_eq_true rfl) ⟨Nat.le_of_ble_eq_true rfl, Nat.le_of_ble_eq_true rfl⟩ dX6_init_5 dX6_init_8 dX6_init_9 (fun H1 locs1 hL1 hz1 hk1 hS1 => ?_)
  have hA1 := hA.kept (hk1 a alt)
  refine b_putF (k := 1) (ty := .object "java/util/ArrayList") hC hS1 hA1 (Or.inl rfl) in_X6 tyX6 tyX6_ok nmX6 (ci := 5) rfl (by decide) q781 rfl rfl (by decide +kernel) rfl rfl (Nat.le_of_ble_eq_true rfl) dX6_init_12 (fun H2 locs2 hA2 hz2 hk2 hS2 => ?_)
  refine lv_aload_n hx hb dX6_init_15 rfl (lv_at hl 0 rfl) ?_
  refine b_newList hC hS2 hl.1 q778 q779 hN (by show 0 + 1 + 1 ≤ 2; omega) (by show 0 + 3 + 3 ≤ 6; omega) (Nat.le_of_ble_eq_true rfl) ⟨Nat.le_of_ble_eq_true rfl, Nat.le_of_ble_eq_true rfl⟩ dX6_init_16 dX6_init_19 dX6_init_20 (fun H3 locs3 hL3 hz3 hk3 hS3 => ?_)
  have hA3 := hA2.kept (hk3 a (by show a < H2.size; omega))
  have hL1b := (hL1.kept (hk2 _ (by show s.heap.size ≠ a; omega))).kept (hk3 _ (by show s.heap.size < H2.size; omega))
  refine b_putF (k := 2) (ty := .object "java/util/ArrayList") hC hS3 hA3 (Or.inl rfl) in_X6 tyX6 tyX6_ok nmX6 (ci := 5) rfl (by decide) q782 rfl rfl (by decide +kernel) rfl rfl (Nat.le_of_ble_eq_true rfl) dX6_init_23 (fun H4 locs4 hA4 hz4 hk4 hS4 => ?_)
  refine lv_aload_n hx hb dX6_init_26 rfl (lv_at hl 0 rfl) ?_
  refine lv_aload_n hx hb dX6_init_27 rfl (lv_at hl 1 rfl) ?_
  refine b_putF (k := 0) (ty := .object "RailingsCount$Sum") hC hS4 hA4 (Or.inl rfl) in_X6 tyX6 tyX6_ok nmX6 (ci := 5) rfl (by decide) q780 rfl rfl (by decide +kernel) rfl rfl (Nat.le_of_ble_eq_true rfl) dX6_init_28 (fun H5 locs5 hA5 hz5 hk5 hS5 => ?_)
  have hL1c := (hL1b.kept (hk4 _ (by show s.heap.size ≠ a; omega))).kept (hk5 _ (by show s.heap.size ≠ a; omega))
  have hL3c := (hL3.kept (hk4 _ (by show H2.size ≠ a; omega))).kept (hk5 _ (by show H2.size ≠ a; omega))
  refine b_vret hC hS5 ⟨by show 0 + 1 + 1 ≤ 2; omega, by show 0 + 3 + 3 ≤ 6; omega⟩ ⟨rfl, H2.size, by omega, hA5, ⟨hL1c, by omega, Or.inl ⟨rfl, rfl⟩, fun i hi => absurd hi (Nat.not_lt_zero _)⟩, ⟨hL3c, by omega, Or.inl ⟨rfl, rfl⟩, fun i hi => absurd hi (Nat.not_lt_zero _)⟩, Nat.le_refl _, ⟨by omega, by omega, by omega, by omega, by omega, hDa, hDa, fun h => absurd h (by decide)⟩, fun i hi => absurd hi (Nat.not_lt_zero _), fun i hi => absurd hi (Nat.not_lt_zero _)⟩ dX6_init_31
theorem wX6_itself {l : Launch} {E : XE} {a x l1 l2 ea1 ea2 n cap : Nat} {mc1 mc2 : Int32} {g1 g2 : Nat → Option Nat} (hn : n < 2 ^ 31) : bM l E bNo yX6_itself (ws_ yX6_itself cX6_itself 1 (some (.object "RailingsCount$Sum"))) { frames := 1, cells := 0, slots := 0, locals := 40 } [.ref a] (ChAt E a x l1 l2 ea1 ea2 n cap mc1 mc2 g1 g2) (fun _ o _ => o = some (.ref (if n = 0 then x else a))) := by
  refine b_met (own := RX6) (mn := "itself") (by decide) rfl rfl (Nat.le_of_ble_eq_true rfl) (fun p e s m args below meth c hC hA ls hl hS => ?_)
  have hx := hC.1.1.1
  have hb := hC.1.1.2.1
  have hts := hC.1.1.2.2.2.2.2.2
  have hl : lv_has ls 1 [(0, .ref a)] := hl
  obtain ⟨c1, c2, -⟩ := hA
  obtain ⟨aW, aN, aC, ad, ⟨d1, d2, d3⟩, -⟩ := hC.2.1.2.2
  have hAr : wAr E ea1 5 cap (if cap = 0 then (fun _ => none) else g1) s.heap := by
    rcases c2.2.2.1 with ⟨h1, h3⟩ | ⟨h1, h3⟩
    · rw [if_pos h1, h1, h3]; exact d3
    · rw [if_neg (by omega)]; exact wAr.of h3
  refine lv_aload_n hx hb dX6_itself_0 rfl (lv_at hl 0 rfl) ?_
  refine e_get (k := 1) (D := RX6) hC.1 c1 in_X6 (ci := 5) rfl (by decide) q781 rfl rfl dX6_itself_1 ?_
  refine e_callV [] l1 hC.1 hl.1 (wJ3_isEmpty hC.1.2.2.1 (ea := ea1) (cap := cap) (mc := mc1) (n := nI n)) ⟨wOB.of c2.1, hAr⟩ (e_recv hC.1 c2.1 (hC.1.2.2.1 16 _ rfl)) (cwV 0 hts (lw_V q819 q820 q821 q130 q822) rfl rfl rfl (by decide +kernel) ⟨Nat.le_of_ble_eq_true rfl, Nat.le_of_ble_eq_true rfl⟩) rfl rfl (lv_room (Nat.le_of_ble_eq_true rfl)) ⟨Nat.le_refl _, Nat.le_refl _⟩ dX6_itself_4 ?_
  have e0 : nI n = 0 ↔ n = 0 := by
    have := nI_eq (a := n) (b := 0) hn (by decide)
    exact this
  by_cases h0 : n = 0
  · rw [if_pos (e0.mpr h0), if_pos h0]
    refine lv_if_eq (tgt := 17) hx hb dX6_itself_7 (by decide) (fun c_1 => absurd c_1 (by decide)) (fun c_1 => ?_)
    refine lv_aload_n hx hb dX6_itself_10 rfl (lv_at hl 0 rfl) ?_
    refine e_get (k := 0) (D := RX6) hC.1 c1 in_X6 (ci := 5) rfl (by decide) q780 rfl rfl dX6_itself_11 ?_
    refine lv_goto (tgt := 18) hx hb dX6_itself_14 (by decide) ?_
    exact b_aret hC (Or.inl ⟨_, rfl⟩) hS ⟨Nat.le_refl _, Nat.le_refl _⟩ rfl dX6_itself_18
  · rw [if_neg (fun h => h0 (e0.mp h)), if_neg h0]
    refine lv_if_eq (tgt := 17) hx hb dX6_itself_7 (by decide) (fun c_1 => ?_) (fun c_1 => absurd rfl c_1)
    refine lv_aload_n hx hb dX6_itself_17 rfl (lv_at hl 0 rfl) ?_
    exact b_aret hC (Or.inl ⟨_, rfl⟩) hS ⟨Nat.le_refl _, Nat.le_refl _⟩ rfl dX6_itself_18
/-- new Text(): nothing told -/
theorem wX4_init {l : Launch} {E : XE} {a : Nat} {o0 o1 o2 : Value} : bM l E (b1 a) yX4_init (ws_ yX4_init cX4_init 1 none) { frames := 5, cells := 2, slots := 5, locals := 180 } [.ref a] (fun H => va_at E.1 E.2.1 (a, .inr (2, [o0, o1, o2])) H ∧ bN E H) (fun sz o H => o = none ∧ ∃ dl, sz < dl ∧ va_at E.1 E.2.1 (a, .inr (2, [.ref sz, o1, .ref dl])) H ∧ va_at E.1 E.2.1 (sz, .inl (E.2.2.2.1 4, 2, .inr (.inr (.inr (.inr (fun _ => none)))))) H ∧ va_at E.1 E.2.1 (dl, .inr (16, [.int 0, .ref (bD E), .int 0])) H) := by
  refine b_met (own := RX4) (mn := "<init>") (by decide) rfl rfl (Nat.le_of_ble_eq_true rfl) (fun p e s m args below meth c hC hA ls hl hS => ?_)
  obtain ⟨hA, hN⟩ := hA
  have hx := hC.1.1.1
  have hb := hC.1.1.2.1
  have hml := hC.1.1.2.2.2.2.1
  have hown := hC.1.1.2.2.2.2.2.1
  have hts := hC.1.1.2.2.2.2.2.2
  have hl : lv_has ls 1 [(0, .ref a)] := hl
  obtain ⟨aW, aN, aC, ad, -, -, -, -, -, -, -, ⟨o1, o2, o3, o4, o5⟩⟩ := hC.2.1.2.2
  have alt := hA.lt
  refine lv_aload_n hx hb dX4_init_0 rfl (lv_at hl 0 rfl) ?_
  refine W.objInit hx hb hown (hts _ q346) (hts _ q162) (hts _ q163) rfl (by rw [hml]; exact hl.1) rfl dX4_init_1 (Nat.le_of_ble_eq_true rfl) (Nat.le_of_ble_eq_true rfl) ?_
  refine lv_aload_n hx hb dX4_init_4 rfl (lv_at hl 0 rfl) ?_
  refine lv_iconst (v := 2) hx hb dX4_init_5 (by decide) ?_
  refine b_newqT (N' := 2) (t := 4) (t0 := 4) hC hS rfl o5.1 q347 (by decide) (by decide) (by decide) (by show 0 + 1 ≤ 2; omega) (by show 0 + 2 ≤ 5; omega) dX4_init_6 (fun H1 hL1 hz1 hk1 hS1 => ?_)
  have hA1 := hA.kept (hk1 a alt)
  refine b_putF (k := 0) (ty := .array (.object "RailingsCount$Sum")) hC hS1 hA1 (Or.inl rfl) in_X4 tyX4 tyX4_ok nmX4 (ci := 2) rfl (by decide) q375 rfl rfl (by decide +kernel) rfl rfl (Nat.le_of_ble_eq_true rfl) dX4_init_9 (fun H2 locs2 hA2 hz2 hk2 hS2 => ?_)
  refine lv_aload_n hx hb dX4_init_12 rfl (lv_at hl 0 rfl) ?_
  refine b_newList hC hS2 hl.1 q349 q351 hN (by show 0 + 1 + 1 ≤ 2; omega) (by show 0 + 2 + 3 ≤ 5; omega) (Nat.le_of_ble_eq_true rfl) ⟨Nat.le_of_ble_eq_true rfl, Nat.le_of_ble_eq_true rfl⟩ dX4_init_13 dX4_init_16 dX4_init_17 (fun H3 locs3 hL3 hz3 hk3 hS3 => ?_)
  have hA3 := hA2.kept (hk3 a (by show a < H2.size; omega))
  have hL1b := (hL1.kept (hk2 _ (by show s.heap.size ≠ a; omega))).kept (hk3 _ (by show s.heap.size < H2.size; omega))
  refine b_putF (k := 2) (ty := .object "java/util/ArrayList") hC hS3 hA3 (Or.inl rfl) in_X4 tyX4 tyX4_ok nmX4 (ci := 2) rfl (by decide) q379 rfl rfl (by decide +kernel) rfl rfl (Nat.le_of_ble_eq_true rfl) dX4_init_20 (fun H4 locs4 hA4 hz4 hk4 hS4 => ?_)
  exact b_vret hC hS4 ⟨by show 0 + 1 + 1 ≤ 2; omega, by show 0 + 2 + 3 ≤ 5; omega⟩ ⟨rfl, H2.size, by omega, hA4, hL1b.kept (hk4 _ (by show s.heap.size ≠ a; omega)), hL3.kept (hk4 _ (by show H2.size ≠ a; omega))⟩ dX4_init_23
theorem wX3_init {l : Launch} {E : XE} {a tp : Nat} {n : Int32} {o0 o1 o2 o3 o4 o5 o6 o7 : Value} : bM l E (b1 a) yX3_init (ws_ yX3_init cX3_init 3 none) { frames := 1, cells := 0, slots := 0, locals := 40 } [.ref a, .ref tp, .int n] (va_at E.1 E.2.1 (a, .inr (3, [o0, o1, o2, o3, o4, o5, o6, o7]))) (fun _ o H => o = none ∧ va_at E.1 E.2.1 (a, .inr (3, [.ref tp, .int n, o2, o3, o4, o5, o6, o7])) H) := by
  refine b_met (own := RX3) (mn := "<init>") (by decide) rfl rfl (Nat.le_of_ble_eq_true rfl) (fun p e s m args below meth c hC hA ls hl hS => ?_)
  have hx := hC.1.1.1
  have hb := hC.1.1.2.1
  have hml := hC.1.1.2.2.2.2.1
  have hown := hC.1.1.2.2.2.2.2.1
  have hts := hC.1.1.2.2.2.2.2.2
  have hl : lv_has ls 3 [(0, .ref a), (1, .ref tp), (2, .int n)] := hl
  refine lv_aload_n hx hb dX3_init_0 rfl (lv_at hl 0 rfl) ?_
  refine W.objInit hx hb hown (hts _ q311) (hts _ q162) (hts _ q163) rfl (by rw [hml]; exact hl.1) rfl dX3_init_1 (Nat.le_of_ble_eq_true rfl) (Nat.le_of_ble_eq_true rfl) ?_
  refine lv_aload_n hx hb dX3_init_4 rfl (lv_at hl 0 rfl) ?_
  refine lv_aload_n hx hb dX3_init_5 rfl (lv_at hl 1 rfl) ?_
  refine b_putF (k := 0) (ty := .array .byte) hC hS hA (Or.inl rfl) in_X3 tyX3 tyX3_ok nmX3 (ci := 3) rfl (by decide) q312 rfl rfl (by decide +kernel) rfl rfl (Nat.le_of_ble_eq_true rfl) dX3_init_6 (fun H1 locs1 hA1 hz1 hk1 hS1 => ?_)
  refine lv_aload_n hx hb dX3_init_9 rfl (lv_at hl 0 rfl) ?_
  refine lv_iload_n hx hb dX3_init_10 rfl (lv_at hl 2 rfl) ?_
  refine b_putF (k := 1) (ty := .int) hC hS1 hA1 (Or.inl rfl) in_X3 tyX3 tyX3_ok nmX3 (ci := 3) rfl (by decide) q313 rfl rfl (by decide +kernel) rfl rfl (Nat.le_of_ble_eq_true rfl) dX3_init_11 (fun H2 locs2 hA2 hz2 hk2 hS2 => ?_)
  exact b_vret hC hS2 ⟨Nat.le_refl _, Nat.le_refl _⟩ ⟨rfl, hA2⟩ dX3_init_14
