/-! ArrayList: made, added to; what it takes from Arrays and ArraysSupport -/
set_option maxRecDepth 100000
abbrev bNo : Nat → Prop := fun _ => False
abbrev b1 (a : Nat) : Nat → Prop := fun q => q = a
theorem wJ1_init {l : Launch} {E : XE} {a : Nat} : bM l E bNo yJ1_init (ws_ yJ1_init cJ1_init 1 none) { frames := 1, cells := 0, slots := 0, locals := 30 } [.ref a] (fun _ => True) (fun _ o _ => o = none) := by
  refine b_met (own := RJ1) (mn := "<init>") (by decide) rfl rfl (Nat.le_of_ble_eq_true rfl) (fun p e s m args below meth c hC hA ls hl hS => ?_)
  have hx := hC.1.1.1
  have hb := hC.1.1.2.1
  have hml := hC.1.1.2.2.2.2.1
  have hown := hC.1.1.2.2.2.2.2.1
  have hts := hC.1.1.2.2.2.2.2.2
  have hl : lv_has ls 1 [(0, .ref a)] := hl
  refine lv_aload_n hx hb dJ1_init_0 rfl (lv_at hl 0 rfl) ?_
  refine W.objInit hx hb hown (hts _ q360) (hts _ q162) (hts _ q163) rfl (by rw [hml]; exact hl.1) rfl dJ1_init_1 (Nat.le_of_ble_eq_true rfl) (Nat.le_of_ble_eq_true rfl) ?_
  exact b_vret hC hS ⟨Nat.le_refl _, Nat.le_refl _⟩ rfl dJ1_init_4
theorem wJ2_init {l : Launch} {E : XE} {a : Nat} {v : Value} {ea n : Value} : bM l E (b1 a) yJ2_init (ws_ yJ2_init cJ2_init 1 none) { frames := 2, cells := 0, slots := 0, locals := 60 } [.ref a] (va_at E.1 E.2.1 (a, .inr (16, [v, ea, n]))) (fun _ o H => o = none ∧ va_at E.1 E.2.1 (a, .inr (16, [.int 0, ea, n])) H) := by
  refine b_met (own := RJ2) (mn := "<init>") (by decide) rfl rfl (Nat.le_of_ble_eq_true rfl) (fun p e s m args below meth c hC hA ls hl hS => ?_)
  have hx := hC.1.1.1
  have hb := hC.1.1.2.1
  have hml := hC.1.1.2.2.2.2.1
  have hown := hC.1.1.2.2.2.2.2.1
  have hts := hC.1.1.2.2.2.2.2.2
  have hl : lv_has ls 1 [(0, .ref a)] := hl
  refine lv_aload_n hx hb dJ2_init_0 rfl (lv_at hl 0 rfl) ?_
  refine b_callI [] a hC hS hl.1 (wJ1_init (a := a)) (fun _ h => h.elim) trivial (cwI 0 hts (lw_meth q359) rfl rfl rfl (hts _ q128) (hts _ q357) (hts _ q358) rfl (by decide +kernel) ⟨Nat.le_of_ble_eq_true rfl, Nat.le_of_ble_eq_true rfl⟩) rfl rfl (lv_room (Nat.le_of_ble_eq_true rfl)) ⟨Nat.le_refl _, Nat.le_refl _⟩ (fun _ h => h.elim) dJ2_init_1 (fun o H1 locs1 hPo hz hk hS1 => ?_)
  subst hPo
  have hA1 : va_at E.1 E.2.1 (a, .inr (16, [v, ea, n])) H1 := hA.kept (hk a hA.lt (fun h => h))
  refine lv_aload_n hx hb dJ2_init_4 rfl (lv_at hl 0 rfl) ?_
  refine lv_iconst (v := 0) hx hb dJ2_init_5 (by decide) ?_
  refine b_put (k := 0) (D := RJ2) (ty := .int) hC hS1 hA1 (Or.inl rfl) in_J3 tyJ3 tyJ3_ok nmJ3 (ci := 16) rfl (by decide) q365 (fun _ h => h) rfl (by decide +kernel) rfl rfl (Nat.le_of_ble_eq_true rfl) dJ2_init_6 (fun H2 locs2 hA2 hz2 hk2 hS2 => ?_)
  exact b_vret hC hS2 ⟨Nat.le_refl _, Nat.le_refl _⟩ ⟨rfl, hA2⟩ dJ2_init_9
theorem wJ3_init {l : Launch} {E : XE} {a : Nat} {v ea n : Value} : bM l E (b1 a) yJ3_init (ws_ yJ3_init cJ3_init 1 none) { frames := 3, cells := 0, slots := 0, locals := 90 } [.ref a] (va_at E.1 E.2.1 (a, .inr (16, [v, ea, n]))) (fun _ o H => o = none ∧ va_at E.1 E.2.1 (a, .inr (16, [.int 0, .ref (bD E), n])) H) := by
  refine b_met (own := RJ3) (mn := "<init>") (by decide) rfl rfl (Nat.le_of_ble_eq_true rfl) (fun p e s m args below meth c hC hA ls hl hS => ?_)
  have hx := hC.1.1.1
  have hb := hC.1.1.2.1
  have hml := hC.1.1.2.2.2.2.1
  have hown := hC.1.1.2.2.2.2.2.1
  have hts := hC.1.1.2.2.2.2.2.2
  have hl : lv_has ls 1 [(0, .ref a)] := hl
  obtain ⟨aW, aN, aC, ad, ⟨d1, d2, d3⟩, -⟩ := hC.2.1.2.2
  refine lv_aload_n hx hb dJ3_init_0 rfl (lv_at hl 0 rfl) ?_
  refine b_callI [] a hC hS hl.1 (wJ2_init (a := a)) hC.2.2.1 hA (cwI 0 hts (lw_meth q356) rfl rfl rfl (hts _ q129) (hts _ q354) (hts _ q355) rfl (by decide +kernel) ⟨Nat.le_of_ble_eq_true rfl, Nat.le_of_ble_eq_true rfl⟩) rfl rfl (lv_room (Nat.le_of_ble_eq_true rfl)) ⟨Nat.le_refl _, Nat.le_refl _⟩ (fun _ h => Or.inl h) dJ3_init_1 (fun o H1 locs1 hPo hz hk hS1 => ?_)
  obtain ⟨rfl, hA1⟩ := hPo
  refine lv_aload_n hx hb dJ3_init_4 rfl (lv_at hl 0 rfl) ?_
  refine b_gets hC hS1 d1 q361 dJ3_init_5 ?_
  refine b_put (k := 1) (D := RJ3) (ty := .array (.object "java/lang/Object")) hC hS1 hA1 (Or.inl rfl) in_J3 tyJ3 tyJ3_ok nmJ3 (ci := 16) rfl (by decide) q363 (fun _ h => h) rfl (by decide +kernel) rfl rfl (Nat.le_of_ble_eq_true rfl) dJ3_init_8 (fun H2 locs2 hA2 hz2 hk2 hS2 => ?_)
  exact b_vret hC hS2 ⟨Nat.le_refl _, Nat.le_refl _⟩ ⟨rfl, hA2⟩ dJ3_init_11
theorem wJ12_newLength {l : Launch} {x0 x1 x2 v : Int32} (ev : x0 + (if x1 < x2 then x2 else x1) = v) (h1 : 0 < v) (h2 : v ≤ 2147483639) : sM l yJ12_newLength (ws_ yJ12_newLength cJ12_newLength 4 (some .int)) { frames := 1, cells := 0, slots := 0, locals := 30 } [.int x0, .int x1, .int x2] (some (.int v)) := by
  refine s_met (own := RJ12) (by decide) rfl (Nat.le_of_ble_eq_true rfl) (fun p e s m args below meth c hC => ?_)
  intro ls hl
  have hx := hC.1
  have hb := hC.2.1
  have hown := hC.2.2.2.2.2.1
  have hts := hC.2.2.2.2.2.2
  have hl : lv_has ls 4 [(0, .int x0), (1, .int x1), (2, .int x2)] := hl
  refine lv_iload_n hx hb dJ12_newLength_0 rfl (lv_at hl 0 rfl) ?_
  refine lv_iload_n hx hb dJ12_newLength_1 rfl (lv_at hl 1 rfl) ?_
  refine lv_iload_n hx hb dJ12_newLength_2 rfl (lv_at hl 2 rfl) ?_
  refine va_mmax hx hb (hC.2.2.2.2.1.trans hl.1.symm) hown (hts _ q624) (hts _ q625) (hts _ q135) (hts _ q626) (Nat.le_of_ble_eq_true rfl) (Nat.le_of_ble_eq_true rfl) (Nat.zero_le _) (Nat.zero_le _) dJ12_newLength_3 ?_
  refine lv_iadd hx hb dJ12_newLength_6 ?_
  rw [ev]
  refine lv_istore_n (lv' := [(3, .int v), (0, .int x0), (1, .int x1), (2, .int x2)]) hx hb dJ12_newLength_7 rfl hl (Nat.le_of_ble_eq_true rfl) rfl (fun ls hl => ?_)
  refine lv_iconst (v := 0) hx hb dJ12_newLength_8 (by decide) ?_
  refine lv_iload_n hx hb dJ12_newLength_9 rfl (lv_at hl 0 rfl) ?_
  refine lv_icmp_ge (tgt := 21) hx hb dJ12_newLength_10 (by decide) (fun c_1 => absurd c_1 (Int32.not_le.mpr h1)) (fun c_1 => ?_)
  refine lv_iload_n hx hb dJ12_newLength_13 rfl (lv_at hl 0 rfl) ?_
  refine lv_ldc (v := 2147483639) hx hb hown (hts _ q627) dJ12_newLength_14 ?_
  refine lv_icmp_gt (tgt := 21) hx hb dJ12_newLength_16 (by decide) (fun c_2 => absurd c_2 (Int32.not_lt.mpr h2)) (fun c_2 => ?_)
  refine lv_iload_n hx hb dJ12_newLength_19 rfl (lv_at hl 0 rfl) ?_
  exact s_iret hC dJ12_newLength_20
/-- Integer.valueOf of a small int: a box of the cache -/
theorem wJ15_valueOf {l : Launch} {E : XE} {v : Int32} {k : Nat} (hk : k < 256) (hv : vb_c k = v) : bM l E bNo yJ15_valueOf (ws_ yJ15_valueOf cJ15_valueOf 1 (some (.object "java/lang/Integer"))) { frames := 1, cells := 0, slots := 0, locals := 30 } [.int v] (fun _ => True) (fun _ o H => ∃ a, o = some (.ref a) ∧ E.2.2.2.2.1 a ∧ wOB E a 17 [.int v] H) := by
  refine b_met (own := RJ15) (mn := "valueOf") (by decide) rfl rfl (Nat.le_of_ble_eq_true rfl) (fun p e s m args below meth c hC hA ls hl hS => ?_)
  have hx := hC.1.1.1
  have hb := hC.1.1.2.1
  have hl : lv_has ls 1 [(0, .int v)] := hl
  obtain ⟨aW, aN, aC, ad, -, -, -, -, -, ⟨i1, i2, i3, i4⟩, -⟩ := hC.2.1.2.2
  have hd : ∀ k, k < 256 → ¬ vb_c k < -128 ∧ ¬ (127 : Int32) < vb_c k ∧ ¬ (vb_c k + 128) < 0 ∧ (vb_c k + 128).toNatClampNeg = k := by decide +kernel
  obtain ⟨g1, g2, g3, g4⟩ := hd k hk
  rw [hv] at g1 g2 g3 g4
  refine lv_iload_n hx hb dJ15_valueOf_0 rfl (lv_at hl 0 rfl) ?_
  refine lv_bipush (v := -128) hx hb dJ15_valueOf_1 (by decide) ?_
  refine lv_icmp_lt (tgt := 23) hx hb dJ15_valueOf_3 (by decide) (fun c_1 => absurd c_1 g1) (fun c_1 => ?_)
  refine lv_iload_n hx hb dJ15_valueOf_6 rfl (lv_at hl 0 rfl) ?_
  refine b_gets hC hS i1 q797 dJ15_valueOf_7 ?_
  refine lv_icmp_gt (tgt := 23) hx hb dJ15_valueOf_10 (by decide) (fun c_1 => absurd c_1 g2) (fun c_1 => ?_)
  refine b_gets hC hS i2 q799 dJ15_valueOf_13 ?_
  refine lv_iload_n hx hb dJ15_valueOf_16 rfl (lv_at hl 0 rfl) ?_
  refine lv_sipush (v := 128) hx hb dJ15_valueOf_17 (by decide) ?_
  refine lv_iadd hx hb dJ15_valueOf_20 ?_
  refine vb_tq hx hb i3 (b_Sz hC hS) (fun h => ?_) rfl dJ15_valueOf_21 ?_
  · rcases h with h | h
    · exact g3 h
    · omega
  rw [g4]
  refine b_aret hC (Or.inl ⟨_, rfl⟩) hS ⟨Nat.le_refl _, Nat.le_refl _⟩ ⟨ad k, rfl, (i4 k hk).1, ?_⟩ dJ15_valueOf_22
  rw [← hv]
  exact (i4 k hk).2
/-- what may lie in a list -/
def bEl (E : XE) (x : Nat) (H : Heap) : Prop := ∃ (ci : Nat) (r : vw_C) (fs : List Value), xcl[ci]? = some r ∧ r.1 ∈ bCast ∧ wOB E x ci fs H
theorem bEl.kept {E : XE} {x : Nat} {H H1 : Heap} (h : bEl E x H) (hq : H1[x]? = H[x]?) : bEl E x H1 := by
  obtain ⟨ci, r, fs, h1, h2, h3⟩ := h
  exact ⟨ci, r, fs, h1, h2, h3.kept hq⟩
theorem bEl.lt {E : XE} {x : Nat} {H : Heap} (h : bEl E x H) : x < H.size := by
  obtain ⟨ci, r, fs, h1, h2, h3⟩ := h
  exact h3.lt
section BL
variable {p : Program} {l : Launch} {e : Env} {R : Room} {s : State} {m : MethodId} {args : Array Value} {below : List Frame} {meth : Method} {c : Code} {H : Heap} {locs : List Loc} {cells slots : Nat} {Q : State → Prop} {E : XE} {A : Nat → Prop} {mn own : String} {cc : ByteArray} {nL : Nat} {rt : Option FieldType} {ls : Array Slot} {pc : Nat} {rest : List Value}
theorem bEl.any (hC : bC E A mn own cc nL rt p s m args meth c) {x : Nat} (h : bEl E x H) : va_Any "java/lang/Object" s H x := by
  obtain ⟨ci, r, fs, h1, h2, h3⟩ := h
  obtain ⟨aW, aN, aC, ad, -, -, -, -, -, -, -, ⟨o1, -⟩⟩ := hC.2.1.2.2
  obtain ⟨cell, g1, g2, g3⟩ := e_recvW hC.1 h3 (hC.1.2.2.1 ci r h1)
  obtain ⟨kC, hkC, -⟩ := Vm.findClass_spec g3
  exact ⟨cell, g1, g2, ⟨kC, hkC⟩, fun comp h => vb_asgC (o1 _ h2) comp _ h g3⟩
/-- a new array of references -/
theorem b_newqT (hC : bC E A mn own cc nL rt p s m args meth c) (hS : va_S (bW A s.heap.size) s.heap H locs) {C : String} {t t0 index N' : Nat} {n : Int32} (ht : (xtys E)[t0]? = some (E.2.2.2.1 t, .object C)) (hAO : va_AO C s) (hclink : Cond.classLink own index C ∈ lw_all) (hn : ¬ n < 0) (hN : n.toNatClampNeg = N') (hbytes : N' * 4 ≤ 536870912) (hcells : cells + 1 ≤ R.cells) (hslots : slots + N' ≤ R.slots) (hdg : decode cc pc = .ok (.anewarray index, 3))
    (kk : ∀ (H1 : Heap), va_at E.1 E.2.1 (H.size, .inl (E.2.2.2.1 t, N', .inr (.inr (.inr (.inr (fun _ => none)))))) H1 → H1.size = H.size + 1 → (∀ q, q < H.size → H1[q]? = H[q]?) → va_S (bW A s.heap.size) s.heap H1 locs → W p l e R s m args below meth c H1 locs (cells + 1) (slots + N') Q (F0 m (pc + 3) ls (.ref H.size :: rest))) : W p l e R s m args below meth c H locs cells slots Q (F0 m pc ls (.int n :: rest)) := by
  subst hN
  obtain ⟨⟨⟨hx, hb, hr, hlocks, hml, hown, hts⟩, hK, hE, -⟩, hG, -⟩ := hC
  refine W.anew hx hb hown (hts _ hclink) (va_AO.use hAO) rfl hdg rfl hn hbytes hcells hslots fun cA kA comp f1 f2 f3 f4 => ?_
  have hcl : cA = E.2.2.2.1 t := by
    obtain ⟨-, -, -, -, -, g5⟩ := (hK.2 t0 _ ht).2
    exact Option.some.inj (f1.symm.trans g5)
  subst hcl
  refine kk _ ?_ (Array.size_push ..) (fun q hq => by rw [Array.getElem?_push, if_neg (Nat.ne_of_lt hq)]) ⟨Nat.le_trans hS.1 (by rw [Array.size_push]; omega), fun x h1 h2 => ?_, hS.2.2⟩
  · show (H.push _)[H.size]? = some (vp_cell _ _)
    rw [vp_cell_q, Array.getElem?_push_size, ← arrV_new]
    rfl
  · rw [Array.getElem?_push, if_neg (Nat.ne_of_lt (Nat.lt_of_lt_of_le h1 hS.1))]
    exact hS.2.1 x h1 h2
/-- a new array of objects -/
theorem b_newq (hC : bC E A mn own cc nL rt p s m args meth c) (hS : va_S (bW A s.heap.size) s.heap H locs) {index N' : Nat} {n : Int32} (hclink : Cond.classLink own index "java/lang/Object" ∈ lw_all) (hn : ¬ n < 0) (hN : n.toNatClampNeg = N') (hbytes : N' * 4 ≤ 536870912) (hcells : cells + 1 ≤ R.cells) (hslots : slots + N' ≤ R.slots) (hdg : decode cc pc = .ok (.anewarray index, 3))
    (kk : ∀ (H1 : Heap), va_at E.1 E.2.1 (H.size, .inl (E.2.2.2.1 5, N', .inr (.inr (.inr (.inr (fun _ => none)))))) H1 → H1.size = H.size + 1 → (∀ q, q < H.size → H1[q]? = H[q]?) → va_S (bW A s.heap.size) s.heap H1 locs → W p l e R s m args below meth c H1 locs (cells + 1) (slots + N') Q (F0 m (pc + 3) ls (.ref H.size :: rest))) : W p l e R s m args below meth c H locs cells slots Q (F0 m pc ls (.int n :: rest)) := by
  obtain ⟨aW, aN, aC, ad, -, -, -, -, -, -, -, ⟨o1, o2, -⟩⟩ := hC.2.1.2.2
  exact b_newqT (t0 := 5) hC hS rfl o2 hclink hn hN hbytes hcells hslots hdg kk
end BL
abbrev cAr (E : XE) (a n : Nat) (g : Nat → Option Nat) (H : Heap) : Prop := va_at E.1 E.2.1 (a, .inl (E.2.2.2.1 5, n, .inr (.inr (.inr (.inr g))))) H
theorem nI_nn {n : Nat} (h : n < 2 ^ 31) : ¬ nI n < 0 := nI_pos h
/-- Arrays.copyOf of an array of objects, to a longer one -/
theorem wJ0_copyOf_2 {l : Launch} {E : XE} {a0 n0 n : Nat} {g : Nat → Option Nat} (h1 : n0 ≤ n) (h2 : n ≤ 40000) : bM l E (b1 a0) yJ0_copyOf_2 (ws_ yJ0_copyOf_2 cJ0_copyOf_2 4 (some (.array (.object "java/lang/Object")))) { frames := 1, cells := 1, slots := n, locals := 40 } [.ref a0, .int (nI n), .ref (bMi E)] (fun H => cAr E a0 n0 g H ∧ ∀ i, i < n0 → ∀ y, g i = some y → bEl E y H) (fun sz o H => o = some (.ref sz) ∧ cAr E a0 n0 g H ∧ cAr E sz n (va_cpy g (fun _ => none) 0 0 n0) H) := by
  refine b_met (own := RJ0) (mn := "copyOf") (by decide) rfl rfl (Nat.le_of_ble_eq_true rfl) (fun p e s m args below meth c hC hA ls hl hS => ?_)
  obtain ⟨hA, hEl⟩ := hA
  have hx := hC.1.1.1
  have hb := hC.1.1.2.1
  have hml := hC.1.1.2.2.2.2.1
  have hown := hC.1.1.2.2.2.2.2.1
  have hts := hC.1.1.2.2.2.2.2.2
  have hK := hC.1.2.1
  have hl : lv_has ls 4 [(0, .ref a0), (1, .int (nI n)), (2, .ref (bMi E))] := hl
  obtain ⟨aW, aN, aC, ad, -, -, -, -, -, -, -, ⟨o1, o2, o3, o4, o5⟩⟩ := hC.2.1.2.2
  refine lv_aload_n hx hb dJ0_copyOf_2_0 rfl (lv_at hl 2 rfl) ?_
  refine va_ldcM hx hb hown (hts _ q660) o4 dJ0_copyOf_2_1 ?_
  refine lv_acmp_ne (rx := some (bMi E)) (ry := some (bMi E)) (tgt := 13) hx hb dJ0_copyOf_2_3 (by decide) (fun h => absurd rfl h) (fun _ => ?_)
  refine lv_iload_n hx hb dJ0_copyOf_2_6 rfl (lv_at hl 1 rfl) ?_
  refine b_newq hC hS q662 (nI_pos (by omega)) (nI_clamp (by omega)) (by omega) (by show 0 + 1 ≤ 1; omega) (by show 0 + n ≤ n; omega) dJ0_copyOf_2_7 (fun H1 hN hz hk hS1 => ?_)
  refine lv_goto (tgt := 24) hx hb dJ0_copyOf_2_10 (by decide) ?_
  refine lv_astore_n (lv' := [(3, .ref s.heap.size), (0, .ref a0), (1, .int (nI n)), (2, .ref (bMi E))]) hx hb dJ0_copyOf_2_24 rfl hl (Nat.le_of_ble_eq_true rfl) rfl (fun ls hl => ?_)
  have hA1 : cAr E a0 n0 g H1 := hA.kept (hk a0 hA.lt)
  have hne : a0 ≠ s.heap.size := Nat.ne_of_lt hA.lt
  have hP : va_P E.1 E.2.1 [(a0, .inl (E.2.2.2.1 5, n0, .inr (.inr (.inr (.inr g))))), (s.heap.size, .inl (E.2.2.2.1 5, n, .inr (.inr (.inr (.inr (fun _ => none))))))] H1 := by
    intro k q hq
    match k, hq with
    | 0, hq => cases hq; exact hA1
    | 1, hq => cases hq; exact hN
    | k + 2, hq => cases hq
  have hD : va_D (bW (b1 a0) s.heap.size) [(a0, .inl (E.2.2.2.1 5, n0, .inr (.inr (.inr (.inr g))))), (s.heap.size, .inl (E.2.2.2.1 5, n, .inr (.inr (.inr (.inr (fun _ => none))))))] := by
    refine ⟨fun i j p r hp hr e9 => ?_, fun k q hq => ?_⟩
    · match i, j, hp, hr with
      | 0, 0, _, _ => rfl
      | 0, 1, hp, hr => cases hp; cases hr; exact absurd e9 hne
      | 1, 0, hp, hr => cases hp; cases hr; exact absurd e9.symm hne
      | 1, 1, _, _ => rfl
      | i + 2, _, hp, _ => cases hp
      | 0, j + 2, _, hr => cases hr
      | 1, j + 2, _, hr => cases hr
    · match k, hq with
      | 0, hq => cases hq; exact Or.inl rfl
      | 1, hq => cases hq; exact Or.inr (Nat.le_refl _)
      | k + 2, hq => cases hq
  refine lv_aload_n hx hb dJ0_copyOf_2_25 rfl (lv_at hl 1 rfl) ?_
  refine lv_iconst (v := 0) hx hb dJ0_copyOf_2_26 (by decide) ?_
  refine lv_aload_n hx hb dJ0_copyOf_2_27 rfl (lv_at hl 0 rfl) ?_
  refine lv_iconst (v := 0) hx hb dJ0_copyOf_2_28 (by decide) ?_
  refine lv_aload_n hx hb dJ0_copyOf_2_29 rfl (lv_at hl 1 rfl) ?_
  refine e_alenW (t := 5) (t0 := 5) hC.1 (wAr.of hA1) rfl (v := nI n0) rfl dJ0_copyOf_2_30 ?_
  refine lv_iload_n hx hb dJ0_copyOf_2_31 rfl (lv_at hl 2 rfl) ?_
  refine va_mmin hx hb (hml.trans hl.1.symm) hown (hts _ q663) (hts _ q455) (hts _ q135) (hts _ q456) (Nat.le_of_ble_eq_true rfl) (Nat.le_of_ble_eq_true rfl) (by show 0 + 1 ≤ 1; omega) (by show 0 + n ≤ n; omega) dJ0_copyOf_2_32 ?_
  have hmin : (if nI n < nI n0 then nI n else nI n0) = nI n0 := by
    split
    · rename_i h
      have h3 : ¬ nI n < nI n0 := by
        rw [Int32.lt_iff_toInt_lt]
        have e1 : (nI n).toInt = n := nI_toInt (by omega)
        have e2 : (nI n0).toInt = n0 := nI_toInt (by omega)
        omega
      exact absurd h h3
    · rfl
  rw [hmin]
  refine va_copyM hx hb (by rw [hml, hl.1]) hown (hts _ q664) (hts _ q228) (hts _ q227) (hts _ q124) hK hP hD hS1 0 1 5 5 rfl rfl rfl rfl (by decide) (by decide) (nI_pos (by omega)) (by rw [nI_clamp (by omega)]; show 0 + n0 ≤ n0; omega) (by rw [nI_clamp (by omega)]; show 0 + n0 ≤ n; omega) (fun i hi y hy => ?_) (Nat.le_of_ble_eq_true rfl) (by show (0 + (nativeFrameWords "java/lang/System" "arraycopy" 5 + 11) : Nat) ≤ 40; decide) dJ0_copyOf_2_35 (fun H2 locs2 hP2 _ hS2 => ?_)
  · rw [nI_clamp (by omega)] at hi
    have e9 : (0 : Int32).toNatClampNeg + i = i := by show 0 + i = i; omega
    rw [e9] at hy
    exact (bEl.any hC ((hEl i hi y hy).kept (hk y (hEl i hi y hy).lt)))
  have hB := hP2 0 _ rfl
  have hB2 := hP2 1 _ rfl
  rw [nI_clamp (by omega)] at hB2
  refine lv_aload_n hx hb dJ0_copyOf_2_38 rfl (lv_at hl 0 rfl) ?_
  exact b_aret hC (Or.inr ⟨_, rfl⟩) hS2 ⟨by show 0 + 1 ≤ 1; omega, by show 0 + n ≤ n; omega⟩ ⟨rfl, hB, hB2⟩ dJ0_copyOf_2_39
theorem wJ0_copyOf {l : Launch} {E : XE} {a0 n0 n : Nat} {g : Nat → Option Nat} (h1 : n0 ≤ n) (h2 : n ≤ 40000) : bM l E (b1 a0) yJ0_copyOf (ws_ yJ0_copyOf cJ0_copyOf 2 (some (.array (.object "java/lang/Object")))) { frames := 2, cells := 1, slots := n, locals := 80 } [.ref a0, .int (nI n)] (fun H => cAr E a0 n0 g H ∧ ∀ i, i < n0 → ∀ y, g i = some y → bEl E y H) (fun sz o H => o = some (.ref sz) ∧ cAr E a0 n0 g H ∧ cAr E sz n (va_cpy g (fun _ => none) 0 0 n0) H) := by
  refine b_met (own := RJ0) (mn := "copyOf") (by decide) rfl rfl (Nat.le_of_ble_eq_true rfl) (fun p e s m args below meth c hC hA ls hl hS => ?_)
  have hx := hC.1.1.1
  have hb := hC.1.1.2.1
  have hml := hC.1.1.2.2.2.2.1
  have hown := hC.1.1.2.2.2.2.2.1
  have hts := hC.1.1.2.2.2.2.2.2
  have hK := hC.1.2.1
  have hl : lv_has ls 2 [(0, .ref a0), (1, .int (nI n))] := hl
  obtain ⟨aW, aN, aC, ad, -, -, -, -, -, -, -, ⟨o1, o2, o3, o4, o5⟩⟩ := hC.2.1.2.2
  refine lv_aload_n hx hb dJ0_copyOf_0 rfl (lv_at hl 0 rfl) ?_
  refine lv_iload_n hx hb dJ0_copyOf_1 rfl (lv_at hl 1 rfl) ?_
  refine lv_aload_n hx hb dJ0_copyOf_2 rfl (lv_at hl 0 rfl) ?_
  refine va_getC (C := "[Ljava/lang/Object;") (mi := bMi E) hx hb (hml.trans hl.1.symm) hown (hts _ q634) (va_Dc.use o3) (hts _ q2038) (hts _ q635) (hts _ q656) o4 ?_ (by show 1 ≤ 2; omega) (Nat.le_of_ble_eq_true rfl) dJ0_copyOf_3 ?_
  · have h9 : s.heap[a0]? = some (vp_cell (E.2.2.2.1 5) (n0, .inr (.inr (.inr (.inr g))))) := hA.1
    refine ⟨_, h9, by rw [vp_cell_q]; rfl, ?_⟩
    rw [vp_cell_q]
    exact va_nmO ((hK.2 5 _ rfl).2) (by decide +kernel)
  refine b_callS [.ref a0, .int (nI n), .ref (bMi E)] hC hS hl.1 (wJ0_copyOf_2 h1 h2) hC.2.2.1 hA (va_cwS 3 hts (lw_S q657 q658 q123 q659) rfl rfl rfl (by decide +kernel) ⟨Nat.le_of_ble_eq_true rfl, Nat.le_of_ble_eq_true rfl⟩) rfl rfl (lv_room (Nat.le_of_ble_eq_true rfl)) ⟨by show 0 + 1 ≤ 1; omega, by show 0 + n ≤ n; omega⟩ (fun _ h => Or.inl h) dJ0_copyOf_6 (fun o H1 locs1 hPo hz hk hS1 => ?_)
  obtain ⟨rfl, hB, hB2⟩ := hPo
  exact b_aret hC (Or.inr ⟨_, rfl⟩) hS1 ⟨by show 0 + 1 ≤ 1; omega, by show 0 + n ≤ n; omega⟩ ⟨rfl, hB, hB2⟩ dJ0_copyOf_9
def bCap (n cap : Nat) : Nat := if n < cap then cap else if cap = 0 then 10 else cap + cap / 2
def bCst (n cap : Nat) : Nat × Nat := if n < cap then (0, 0) else (1, bCap n cap)
theorem nI_shr {n : Nat} (h : n < 2 ^ 31) : nI n >>> ((1 : Int32) &&& 31) = nI (n / 2) := by
  have k := pk_shrN (n := n) (by omega) ((1 : Int32) &&& 31) 1 (by decide)
  rw [Nat.pow_one] at k
  exact k
theorem wJ3_grow_2 {l : Launch} {E : XE} {lo n cap ea : Nat} {mc : Int32} {g : Nat → Option Nat} (hn : n = cap) (h2 : cap ≤ 20000) : bM l E (fun q => q = lo ∨ (10 ≤ cap ∧ q = ea)) yJ3_grow_2 (ws_ yJ3_grow_2 cJ3_grow_2 4 (some (.array (.object "java/lang/Object")))) { frames := 3, cells := 1, slots := bCap n cap, locals := 120 } [.ref lo, .int (nI (n + 1))] (fun H => va_at E.1 E.2.1 (lo, .inr (16, [.int mc, .ref ea, .int (nI n)])) H ∧ lo ≠ ea ∧ ((cap = 0 ∧ ea = bD E) ∨ (10 ≤ cap ∧ cAr E ea cap g H)) ∧ ∀ i, i < n → ∀ y, g i = some y → bEl E y H) (fun sz o H => o = some (.ref sz) ∧ va_at E.1 E.2.1 (lo, .inr (16, [.int mc, .ref sz, .int (nI n)])) H ∧ ∃ g1, (∀ i, i < n → g1 i = g i) ∧ cAr E sz (bCap n cap) g1 H) := by
  refine b_met (own := RJ3) (mn := "grow") (by decide) rfl rfl (Nat.le_of_ble_eq_true rfl) (fun p e s m args below meth c hC hA ls hl hS => ?_)
  have hx := hC.1.1.1
  have hb := hC.1.1.2.1
  have hml := hC.1.1.2.2.2.2.1
  have hown := hC.1.1.2.2.2.2.2.1
  have hts := hC.1.1.2.2.2.2.2.2
  have hK := hC.1.2.1
  have hl : lv_has ls 4 [(0, .ref lo), (1, .int (nI (n + 1)))] := hl
  obtain ⟨hA, hne, hcs, hEl⟩ := hA
  obtain ⟨aW, aN, aC, ad, ⟨d1, d2, d3⟩, -⟩ := hC.2.1.2.2
  have hAr : wAr E ea 5 cap (if cap = 0 then (fun _ => none) else g) s.heap := by
    rcases hcs with ⟨h1, h3⟩ | ⟨h1, h3⟩
    · rw [if_pos h1, h1, h3]; exact d3
    · rw [if_neg (by omega)]; exact wAr.of h3
  refine lv_aload_n hx hb dJ3_grow_2_0 rfl (lv_at hl 0 rfl) ?_
  refine e_get (k := 1) (D := RJ3) hC.1 hA in_J3 (ci := 16) rfl (by decide) q363 rfl rfl dJ3_grow_2_1 ?_
  refine e_alenW (t := 5) (t0 := 5) hC.1 hAr rfl (v := nI cap) rfl dJ3_grow_2_4 ?_
  refine lv_istore_n (lv' := [(2, .int (nI cap)), (0, .ref lo), (1, .int (nI (n + 1)))]) hx hb dJ3_grow_2_5 rfl hl (Nat.le_of_ble_eq_true rfl) rfl (fun ls hl => ?_)
  refine lv_iload_n hx hb dJ3_grow_2_6 rfl (lv_at hl 0 rfl) ?_
  refine lv_if_gt (tgt := 20) hx hb dJ3_grow_2_7 (by decide) (fun c_1 => ?_) (fun c_1 => ?_)
  · have hc0 : 10 ≤ cap := by
      rcases hcs with ⟨h1, h3⟩ | ⟨h1, h3⟩
      · rw [h1] at c_1; exact absurd c_1 (by decide)
      · exact h1
    have hcA : cAr E ea cap g s.heap := by
      rcases hcs with ⟨h1, h3⟩ | ⟨h1, h3⟩
      · omega
      · exact h3
    have hbc : bCap n cap = cap + cap / 2 := by
      unfold bCap
      rw [if_neg (by omega), if_neg (by omega)]
    refine lv_iload_n hx hb dJ3_grow_2_20 rfl (lv_at hl 0 rfl) ?_
    refine lv_iload_n hx hb dJ3_grow_2_21 rfl (lv_at hl 2 rfl) ?_
    refine lv_iload_n hx hb dJ3_grow_2_22 rfl (lv_at hl 0 rfl) ?_
    refine lv_isub hx hb dJ3_grow_2_23 ?_
    refine lv_iload_n hx hb dJ3_grow_2_24 rfl (lv_at hl 0 rfl) ?_
    refine lv_iconst (v := 1) hx hb dJ3_grow_2_25 (by decide) ?_
    refine lv_ishr hx hb dJ3_grow_2_26 ?_
    have e1 : nI (n + 1) - nI cap = 1 := by
      have k := pk_sub (a := n + 1) (b := n) (by omega)
      rw [Nat.add_sub_cancel_left] at k
      rw [← hn]
      exact k
    rw [nI_shr (n := cap) (by omega), e1]
    have e2 : nI cap + (if (1 : Int32) < nI (cap / 2) then nI (cap / 2) else 1) = nI (cap + cap / 2) := by
      rw [if_pos (by
        have := nI_lt (a := 1) (b := cap / 2) (by omega) (by omega)
        exact this)]
      exact nI_add _ _
    refine s_calli [.int (nI cap), .int 1, .int (nI (cap / 2))] hC.1.1 hl.1 (wJ12_newLength e2 (by have := nI_lt (a := 0) (b := cap + cap / 2) (by omega) (by omega); exact this) (by have := nI_le (a := cap + cap / 2) (b := 2147483639) (by omega) (by decide); exact this)) (va_cwS 3 hts (lw_S q621 q622 q144 q623) rfl rfl rfl (by decide +kernel) ⟨Nat.le_of_ble_eq_true rfl, Nat.le_of_ble_eq_true rfl⟩) rfl rfl (lv_room (Nat.le_of_ble_eq_true rfl)) ⟨Nat.zero_le _, Nat.zero_le _⟩ dJ3_grow_2_27 ?_
    refine lv_istore_n (lv' := [(3, .int (nI (cap + cap / 2))), (2, .int (nI cap)), (0, .ref lo), (1, .int (nI (n + 1)))]) hx hb dJ3_grow_2_30 rfl hl (Nat.le_of_ble_eq_true rfl) rfl (fun ls hl => ?_)
    refine lv_aload_n hx hb dJ3_grow_2_31 rfl (lv_at hl 2 rfl) ?_
    refine lv_aload_n hx hb dJ3_grow_2_32 rfl (lv_at hl 2 rfl) ?_
    refine e_get (k := 1) (D := RJ3) hC.1 hA in_J3 (ci := 16) rfl (by decide) q363 rfl rfl dJ3_grow_2_33 ?_
    refine lv_iload_n hx hb dJ3_grow_2_36 rfl (lv_at hl 0 rfl) ?_
    rw [hbc]
    refine b_callS [.ref ea, .int (nI (cap + cap / 2))] hC hS hl.1 (wJ0_copyOf (a0 := ea) (n0 := cap) (n := cap + cap / 2) (g := g) (by omega) (by omega)) (fun q hq => hC.2.2.1 q (Or.inr ⟨hc0, hq⟩)) ⟨hcA, fun i hi => hEl i (by omega)⟩ (va_cwS 2 hts (lw_S q631 q632 q123 q633) rfl rfl rfl (by decide +kernel) ⟨Nat.le_of_ble_eq_true rfl, Nat.le_of_ble_eq_true rfl⟩) rfl rfl (lv_room (Nat.le_of_ble_eq_true rfl)) ⟨by show 0 + 1 ≤ 1; omega, by show 0 + (cap + cap / 2) ≤ cap + cap / 2; omega⟩ (fun q h => Or.inl (Or.inr ⟨hc0, h⟩)) dJ3_grow_2_37 (fun o H1 locs1 hPo hz hk hS1 => ?_)
    obtain ⟨rfl, hB, hB2⟩ := hPo
    refine lv_dup_x1 hx hb dJ3_grow_2_40 rfl rfl ?_
    have hA1 := hA.kept (hk lo hA.lt hne)
    refine b_put (k := 1) (D := RJ3) (ty := .array (.object "java/lang/Object")) hC hS1 hA1 (Or.inl (Or.inl rfl)) in_J3 tyJ3 tyJ3_ok nmJ3 (ci := 16) rfl (by decide) q363 (fun _ h => h) rfl (by decide +kernel) rfl rfl (Nat.le_of_ble_eq_true rfl) dJ3_grow_2_41 (fun H2 locs2 hA2 hz2 hk2 hS2 => ?_)
    refine b_aret hC (Or.inr ⟨_, rfl⟩) hS2 ⟨by show 0 + 1 ≤ 1; omega, by show 0 + (cap + cap / 2) ≤ cap + cap / 2; omega⟩ ⟨rfl, hA2, _, fun i hi => ?_, hB2.kept (hk2 _ (fun e9 => absurd hA.lt (by rw [← e9]; exact Nat.lt_irrefl _)))⟩ dJ3_grow_2_44
    unfold va_cpy
    simp
    omega
  · have hc0 : cap = 0 := by
      rcases hcs with ⟨h1, h3⟩ | ⟨h1, h3⟩
      · exact h1
      · exact absurd (nI_lt (a := 0) (b := cap) (by omega) (by omega)) c_1
    have hea : ea = bD E := by
      rcases hcs with ⟨h1, h3⟩ | ⟨h1, h3⟩
      · exact h3
      · omega
    subst hc0
    subst hn
    refine lv_aload_n hx hb dJ3_grow_2_10 rfl (lv_at hl 1 rfl) ?_
    refine e_get (k := 1) (D := RJ3) hC.1 hA in_J3 (ci := 16) rfl (by decide) q363 rfl rfl dJ3_grow_2_11 ?_
    refine b_gets hC hS d1 q361 dJ3_grow_2_14 ?_
    refine lv_acmp_eq (rx := some ea) (ry := some (bD E)) (tgt := 45) hx hb dJ3_grow_2_17 (by decide) (fun _ => ?_) (fun h => absurd (by rw [hea]) h)
    refine lv_aload_n hx hb dJ3_grow_2_45 rfl (lv_at hl 1 rfl) ?_
    refine lv_bipush (v := 10) hx hb dJ3_grow_2_46 (by decide) ?_
    refine lv_iload_n hx hb dJ3_grow_2_48 rfl (lv_at hl 2 rfl) ?_
    refine va_mmax hx hb (hml.trans hl.1.symm) hown (hts _ q665) (hts _ q625) (hts _ q135) (hts _ q626) (Nat.le_of_ble_eq_true rfl) (Nat.le_of_ble_eq_true rfl) (by show 0 ≤ 1; omega) (by show 0 ≤ 10; omega) dJ3_grow_2_49 ?_
    refine b_newq (N' := 10) hC hS q666 (by decide) (by decide) (by decide) (by show 0 + 1 ≤ 1; omega) (by show 0 + 10 ≤ 10; omega) dJ3_grow_2_52 (fun H1 hN hz hk hS1 => ?_)
    refine lv_dup_x1 hx hb dJ3_grow_2_55 rfl rfl ?_
    have hA1 := hA.kept (hk lo hA.lt)
    refine b_put (k := 1) (D := RJ3) (ty := .array (.object "java/lang/Object")) hC hS1 hA1 (Or.inl (Or.inl rfl)) in_J3 tyJ3 tyJ3_ok nmJ3 (ci := 16) rfl (by decide) q363 (fun _ h => h) rfl (by decide +kernel) rfl rfl (Nat.le_of_ble_eq_true rfl) dJ3_grow_2_56 (fun H2 locs2 hA2 hz2 hk2 hS2 => ?_)
    exact b_aret hC (Or.inr ⟨_, rfl⟩) hS2 ⟨by show 0 + 1 ≤ 1; omega, by show 0 + 10 ≤ 10; omega⟩ ⟨rfl, hA2, _, fun i hi => absurd hi (Nat.not_lt_zero _), hN.kept (hk2 _ (fun e9 => absurd hA.lt (by rw [← e9]; exact Nat.lt_irrefl _)))⟩ dJ3_grow_2_59
/-- the start of a list that grows -/
abbrev bLst (E : XE) (lo n cap ea : Nat) (mc : Int32) (g : Nat → Option Nat) (H : Heap) : Prop := va_at E.1 E.2.1 (lo, .inr (16, [.int mc, .ref ea, .int (nI n)])) H ∧ lo ≠ ea ∧ ((cap = 0 ∧ ea = bD E) ∨ (10 ≤ cap ∧ cAr E ea cap g H)) ∧ ∀ i, i < n → ∀ y, g i = some y → bEl E y H ∧ y ≠ lo
theorem wJ3_grow {l : Launch} {E : XE} {lo n cap ea : Nat} {mc : Int32} {g : Nat → Option Nat} (hn : n = cap) (h2 : cap ≤ 20000) : bM l E (fun q => q = lo ∨ (10 ≤ cap ∧ q = ea)) yJ3_grow (ws_ yJ3_grow cJ3_grow 1 (some (.array (.object "java/lang/Object")))) { frames := 4, cells := 1, slots := bCap n cap, locals := 160 } [.ref lo] (bLst E lo n cap ea mc g) (fun sz o H => o = some (.ref sz) ∧ va_at E.1 E.2.1 (lo, .inr (16, [.int mc, .ref sz, .int (nI n)])) H ∧ ∃ g1, (∀ i, i < n → g1 i = g i) ∧ cAr E sz (bCap n cap) g1 H) := by
  refine b_met (own := RJ3) (mn := "grow") (by decide) rfl rfl (Nat.le_of_ble_eq_true rfl) (fun p e s m args below meth c hC hA ls hl hS => ?_)
  have hx := hC.1.1.1
  have hb := hC.1.1.2.1
  have hts := hC.1.1.2.2.2.2.2.2
  have hl : lv_has ls 1 [(0, .ref lo)] := hl
  refine lv_aload_n hx hb dJ3_grow_0 rfl (lv_at hl 0 rfl) ?_
  refine lv_aload_n hx hb dJ3_grow_1 rfl (lv_at hl 0 rfl) ?_
  refine e_get (k := 2) (D := RJ3) hC.1 hA.1 in_J3 (ci := 16) rfl (by decide) q364 rfl rfl dJ3_grow_2 ?_
  refine lv_iconst (v := 1) hx hb dJ3_grow_5 (by decide) ?_
  refine lv_iadd hx hb dJ3_grow_6 ?_
  rw [nI_1]
  refine b_callV [.int (nI (n + 1))] lo hC hS hl.1 (wJ3_grow_2 (lo := lo) (ea := ea) (mc := mc) (g := g) hn h2) hC.2.2.1 ⟨hA.1, hA.2.1, hA.2.2.1, fun i hi y hy => (hA.2.2.2 i hi y hy).1⟩ (e_recv hC.1 hA.1 (hC.1.2.2.1 16 _ rfl)) (cwV 1 hts (lw_V q617 q619 qs16 q130 q620) rfl rfl rfl (by decide +kernel) ⟨Nat.le_of_ble_eq_true rfl, Nat.le_of_ble_eq_true rfl⟩) rfl rfl (lv_room (Nat.le_of_ble_eq_true rfl)) ⟨by show 0 + 1 ≤ 1; omega, by show 0 + bCap n cap ≤ bCap n cap; omega⟩ (fun q h => Or.inl h) dJ3_grow_7 (fun o H1 locs1 hPo hz hk hS1 => ?_)
  obtain ⟨rfl, hB⟩ := hPo
  exact b_aret hC (Or.inr ⟨_, rfl⟩) hS1 ⟨by show 0 + 1 ≤ 1; omega, by show 0 + bCap n cap ≤ bCap n cap; omega⟩ ⟨rfl, hB⟩ dJ3_grow_10
/-- the end of an add -/
abbrev bAdd (E : XE) (sz lo n cap ea x : Nat) (mc : Int32) (g : Nat → Option Nat) (H : Heap) : Prop := ∃ (ea1 : Nat) (g1 : Nat → Option Nat), lo ≠ ea1 ∧ va_at E.1 E.2.1 (lo, .inr (16, [.int mc, .ref ea1, .int (nI (n + 1))])) H ∧ cAr E ea1 (bCap n cap) g1 H ∧ g1 n = some x ∧ (∀ i, i < n → g1 i = g i) ∧ ((n < cap ∧ ea1 = ea) ∨ sz ≤ ea1)
theorem bCap_lt {n cap : Nat} (h : n ≤ cap) (h1 : cap = 0 ∨ 10 ≤ cap) : n < bCap n cap := by
  unfold bCap
  split
  · assumption
  · split <;> omega
theorem wJ3_add_2 {l : Launch} {E : XE} {lo n cap ea x : Nat} {mc : Int32} {g : Nat → Option Nat} (hn : n ≤ cap) (h2 : cap ≤ 20000) : bM l E (fun q => q = lo ∨ (10 ≤ cap ∧ q = ea)) yJ3_add_2 (ws_ yJ3_add_2 cJ3_add_2 4 none) { frames := 5, cells := (bCst n cap).1, slots := (bCst n cap).2, locals := 200 } [.ref lo, .ref x, .ref ea, .int (nI n)] (fun H => bLst E lo n cap ea mc g H ∧ bEl E x H ∧ x ≠ lo ∧ (10 ≤ cap → x ≠ ea)) (fun sz o H => o = none ∧ bAdd E sz lo n cap ea x mc g H) := by
  refine b_met (own := RJ3) (mn := "add") (by decide) rfl rfl (Nat.le_of_ble_eq_true rfl) (fun p e s m args below meth c hC hA ls hl hS => ?_)
  have hx := hC.1.1.1
  have hb := hC.1.1.2.1
  have hml := hC.1.1.2.2.2.2.1
  have hown := hC.1.1.2.2.2.2.2.1
  have hts := hC.1.1.2.2.2.2.2.2
  have hK := hC.1.2.1
  have hl : lv_has ls 4 [(0, .ref lo), (1, .ref x), (2, .ref ea), (3, .int (nI n))] := hl
  obtain ⟨⟨hA, hne, hcs, hEl⟩, hX, hx1, hx2⟩ := hA
  obtain ⟨aW, aN, aC, ad, ⟨d1, d2, d3⟩, -⟩ := hC.2.1.2.2
  have hAr : wAr E ea 5 cap (if cap = 0 then (fun _ => none) else g) s.heap := by
    rcases hcs with ⟨h1, h3⟩ | ⟨h1, h3⟩
    · rw [if_pos h1, h1, h3]; exact d3
    · rw [if_neg (by omega)]; exact wAr.of h3
  have hc10 : cap = 0 ∨ 10 ≤ cap := by rcases hcs with ⟨h1, h3⟩ | ⟨h1, h3⟩; exact Or.inl h1; exact Or.inr h1
  have hlt := bCap_lt hn hc10
  have hb9 : bCap n cap ≤ 40000 := by
    unfold bCap
    split
    · omega
    · split <;> omega
  have tail : ∀ (ea1 : Nat) (g1 : Nat → Option Nat) (H1 : Heap) (locs1 : List Loc) (cells slots : Nat) (ls : Array Slot), lv_has ls 4 [(0, .ref lo), (1, .ref x), (2, .ref ea1), (3, .int (nI n))] → va_S (bW (fun q => q = lo ∨ (10 ≤ cap ∧ q = ea)) s.heap.size) s.heap H1 locs1 → va_at E.1 E.2.1 (lo, .inr (16, [.int mc, .ref ea1, .int (nI n)])) H1 → cAr E ea1 (bCap n cap) g1 H1 → lo ≠ ea1 → bEl E x H1 → (∀ i, i < n → g1 i = g i) → ((n < cap ∧ ea1 = ea) ∨ s.heap.size ≤ ea1) → cells ≤ (bCst n cap).1 ∧ slots ≤ (bCst n cap).2 →
      W p l e { frames := 5, cells := (bCst n cap).1, slots := (bCst n cap).2, locals := 200 } s m args below meth c H1 locs1 cells slots (bQ (fun q => q = lo ∨ (10 ≤ cap ∧ q = ea)) { frames := 5, cells := (bCst n cap).1, slots := (bCst n cap).2, locals := 200 } below args s (fun o H => o = none ∧ bAdd E s.heap.size lo n cap ea x mc g H)) (F0 m 11 ls []) := by
    intro ea1 g1 H1 locs1 cells slots ls hl hS1 hA1 hB1 hn1 hX1 hg1 hw1 hfit
    have hb1 : bW (fun q => q = lo ∨ (10 ≤ cap ∧ q = ea)) s.heap.size ea1 := by
      rcases hw1 with ⟨h1, h3⟩ | h1
      · exact Or.inl (Or.inr ⟨by omega, h3⟩)
      · exact Or.inr h1
    have hP : va_P E.1 E.2.1 [(ea1, .inl (E.2.2.2.1 5, bCap n cap, .inr (.inr (.inr (.inr g1))))), (lo, .inr (16, [.int mc, .ref ea1, .int (nI n)]))] H1 := by
      intro k q hq
      match k, hq with
      | 0, hq => cases hq; exact hB1
      | 1, hq => cases hq; exact hA1
      | k + 2, hq => cases hq
    have hD : va_D (bW (fun q => q = lo ∨ (10 ≤ cap ∧ q = ea)) s.heap.size) [(ea1, .inl (E.2.2.2.1 5, bCap n cap, .inr (.inr (.inr (.inr g1))))), (lo, .inr (16, [.int mc, .ref ea1, .int (nI n)]))] := by
      refine ⟨fun i j p r hp hr e9 => ?_, fun k q hq => ?_⟩
      · match i, j, hp, hr with
        | 0, 0, _, _ => rfl
        | 0, 1, hp, hr => cases hp; cases hr; exact absurd e9.symm hn1
        | 1, 0, hp, hr => cases hp; cases hr; exact absurd e9 hn1
        | 1, 1, _, _ => rfl
        | i + 2, _, hp, _ => cases hp
        | 0, j + 2, _, hr => cases hr
        | 1, j + 2, _, hr => cases hr
      · match k, hq with
        | 0, hq => cases hq; exact hb1
        | 1, hq => cases hq; exact Or.inl (Or.inl rfl)
        | k + 2, hq => cases hq
    have hi9 : (nI n).toNatClampNeg = n := nI_clamp (by omega)
    refine lv_aload_n hx hb dJ3_add_2_11 rfl (lv_at hl 2 rfl) ?_
    refine lv_iload_n hx hb dJ3_add_2_12 rfl (lv_at hl 3 rfl) ?_
    refine lv_aload_n hx hb dJ3_add_2_13 rfl (lv_at hl 1 rfl) ?_
    refine va_astqM hx hb hK hP hD hS1 0 5 rfl rfl (bEl.any hC hX1) (nI_in hlt (by omega)) dJ3_add_2_14 (fun H2 locs2 hP2 _ hS2 => ?_)
    rw [hi9] at hP2
    refine lv_aload_n hx hb dJ3_add_2_15 rfl (lv_at hl 0 rfl) ?_
    refine lv_iload_n hx hb dJ3_add_2_16 rfl (lv_at hl 3 rfl) ?_
    refine lv_iconst (v := 1) hx hb dJ3_add_2_17 (by decide) ?_
    refine lv_iadd hx hb dJ3_add_2_18 ?_
    rw [nI_1]
    refine b_put (k := 2) (D := RJ3) (ty := .int) hC hS2 (hP2 1 _ rfl) (Or.inl (Or.inl rfl)) in_J3 tyJ3 tyJ3_ok nmJ3 (ci := 16) rfl (by decide) q364 (fun _ h => h) rfl (by decide +kernel) rfl rfl (Nat.le_of_ble_eq_true rfl) dJ3_add_2_19 (fun H3 locs3 hA3 hz3 hk3 hS3 => ?_)
    refine b_vret hC hS3 hfit ⟨rfl, ea1, _, hn1, hA3, (hP2 0 _ rfl).kept (hk3 ea1 (Ne.symm hn1)), ?_, fun i hi => ?_, hw1⟩ dJ3_add_2_22
    · simp [va_up]
    · rw [← hg1 i hi]
      simp [va_up]
      omega
  refine lv_iload_n hx hb dJ3_add_2_0 rfl (lv_at hl 3 rfl) ?_
  refine lv_aload_n hx hb dJ3_add_2_1 rfl (lv_at hl 2 rfl) ?_
  refine e_alenW (t := 5) (t0 := 5) hC.1 hAr rfl (v := nI cap) rfl dJ3_add_2_2 ?_
  refine lv_icmp_ne (tgt := 11) hx hb dJ3_add_2_3 (by decide) (fun c_1 => ?_) (fun c_1 => ?_)
  · have hnc : n < cap := by
      rcases Nat.lt_or_eq_of_le hn with h | h
      · exact h
      · exact absurd (by rw [h]) c_1
    have hcA : cAr E ea cap g s.heap := by
      rcases hcs with ⟨h1, h3⟩ | ⟨h1, h3⟩
      · omega
      · exact h3
    have ebc : bCap n cap = cap := if_pos hnc
    exact tail ea g s.heap [] 0 0 ls hl hS hA (by rw [ebc]; exact hcA) hne hX (fun _ _ => rfl) (Or.inl ⟨hnc, rfl⟩) ⟨Nat.zero_le _, Nat.zero_le _⟩
  · have hnc : n = cap := (nI_eq (by omega) (by omega)).mp (by first | exact c_1 | exact Decidable.not_not.mp c_1)
    have ec : bCst n cap = (1, bCap n cap) := if_neg (by omega)
    refine lv_aload_n hx hb dJ3_add_2_6 rfl (lv_at hl 0 rfl) ?_
    refine b_callV [] lo hC hS hl.1 (wJ3_grow (lo := lo) (ea := ea) (mc := mc) (g := g) hnc h2) hC.2.2.1 ⟨hA, hne, hcs, hEl⟩ (e_recv hC.1 hA (hC.1.2.2.1 16 _ rfl)) (cwV 0 hts (lw_V q613 q615 qs15 q130 q616) rfl rfl rfl (by decide +kernel) ⟨Nat.le_of_ble_eq_true rfl, Nat.le_of_ble_eq_true rfl⟩) rfl rfl (lv_room (Nat.le_of_ble_eq_true rfl)) ⟨by rw [ec]; show 0 + 1 ≤ 1; omega, by rw [ec]; show 0 + bCap n cap ≤ bCap n cap; omega⟩ (fun q h => Or.inl h) dJ3_add_2_7 (fun o H1 locs1 hPo hz hk hS1 => ?_)
    obtain ⟨rfl, hA1, g1, hg1, hB1⟩ := hPo
    refine lv_astore_n (lv' := [(2, .ref s.heap.size), (0, .ref lo), (1, .ref x), (3, .int (nI n))]) hx hb dJ3_add_2_10 rfl hl (Nat.le_of_ble_eq_true rfl) rfl (fun ls hl => ?_)
    have hX1 : bEl E x H1 := hX.kept (hk x hX.lt (fun h => by rcases h with h | h; exact hx1 h; exact hx2 h.1 h.2))
    exact tail s.heap.size g1 H1 locs1 _ _ ls (lv_sub hl [1, 2, 0, 3] rfl) hS1 hA1 hB1 (Nat.ne_of_lt hA.lt) hX1 hg1 (Or.inr (Nat.le_refl _)) ⟨by rw [ec]; show 0 + 1 ≤ 1; omega, by rw [ec]; show 0 + bCap n cap ≤ bCap n cap; omega⟩
theorem wJ3_add {l : Launch} {E : XE} {lo n cap ea x : Nat} {mc : Int32} {g : Nat → Option Nat} (hn : n ≤ cap) (h2 : cap ≤ 20000) : bM l E (fun q => q = lo ∨ (10 ≤ cap ∧ q = ea)) yJ3_add (ws_ yJ3_add cJ3_add 2 (some .boolean)) { frames := 6, cells := (bCst n cap).1, slots := (bCst n cap).2, locals := 240 } [.ref lo, .ref x] (fun H => bLst E lo n cap ea mc g H ∧ bEl E x H ∧ x ≠ lo ∧ (10 ≤ cap → x ≠ ea)) (fun sz o H => o = some (.int 1) ∧ bAdd E sz lo n cap ea x (mc + 1) g H) := by
  refine b_met (own := RJ3) (mn := "add") (by decide) rfl rfl (Nat.le_of_ble_eq_true rfl) (fun p e s m args below meth c hC hA ls hl hS => ?_)
  have hx := hC.1.1.1
  have hb := hC.1.1.2.1
  have hown := hC.1.1.2.2.2.2.2.1
  have hts := hC.1.1.2.2.2.2.2.2
  have hl : lv_has ls 2 [(0, .ref lo), (1, .ref x)] := hl
  obtain ⟨⟨hA, hne, hcs, hEl⟩, hX, hx1, hx2⟩ := hA
  refine lv_aload_n hx hb dJ3_add_0 rfl (lv_at hl 0 rfl) ?_
  refine lv_dup hx hb dJ3_add_1 rfl ?_
  refine va_get (D := E.1) (cl := E.2.1) (ci := 16) (v := .int mc) (C := RJ3) (T := TJ3) (N := 3) hx hb hts in_J3 hown hC.1.2.1 (e_one hA) 0 rfl (hC.1.2.2.1 16 _ rfl) 0 (by decide) (hts _ q366) (fun x9 h => u_same (hts _ q367) x9 h) rfl dJ3_add_2 ?_
  refine lv_iconst (v := 1) hx hb dJ3_add_5 (by decide) ?_
  refine lv_iadd hx hb dJ3_add_6 ?_
  refine b_put (k := 0) (D := RJ3) (ty := .int) hC hS hA (Or.inl (Or.inl rfl)) in_J3 tyJ3 tyJ3_ok nmJ3 (ci := 16) rfl (by decide) q366 (fun x9 h => u_same (hts _ q367) x9 h) rfl (by decide +kernel) rfl rfl (Nat.le_of_ble_eq_true rfl) dJ3_add_7 (fun H1 locs1 hA1 hz1 hk1 hS1 => ?_)
  refine lv_aload_n hx hb dJ3_add_10 rfl (lv_at hl 0 rfl) ?_
  refine lv_aload_n hx hb dJ3_add_11 rfl (lv_at hl 1 rfl) ?_
  refine lv_aload_n hx hb dJ3_add_12 rfl (lv_at hl 0 rfl) ?_
  refine e_get (k := 1) (D := RJ3) hC.1 hA1 in_J3 (ci := 16) rfl (by decide) q363 rfl rfl dJ3_add_13 ?_
  refine lv_aload_n hx hb dJ3_add_16 rfl (lv_at hl 0 rfl) ?_
  refine e_get (k := 2) (D := RJ3) hC.1 hA1 in_J3 (ci := 16) rfl (by decide) q364 rfl rfl dJ3_add_17 ?_
  have hcs1 : (cap = 0 ∧ ea = bD E) ∨ (10 ≤ cap ∧ cAr E ea cap g H1) := by
    rcases hcs with h | ⟨h1, h3⟩
    · exact Or.inl h
    · exact Or.inr ⟨h1, h3.kept (hk1 ea (Ne.symm hne))⟩
  have hEl1 : ∀ i, i < n → ∀ y, g i = some y → bEl E y H1 ∧ y ≠ lo := fun i hi y hy => ⟨(hEl i hi y hy).1.kept (hk1 y (hEl i hi y hy).2), (hEl i hi y hy).2⟩
  refine b_callV [.ref x, .ref ea, .int (nI n)] lo hC hS1 hl.1 (wJ3_add_2 (lo := lo) (ea := ea) (mc := mc + 1) (g := g) (x := x) hn h2) hC.2.2.1 ⟨⟨hA1, hne, hcs1, hEl1⟩, hX.kept (hk1 x hx1), hx1, hx2⟩ (e_recv hC.1 hA1 (hC.1.2.2.1 16 _ rfl)) (cwV 3 hts (lw_V q609 q611 qs14 q130 q612) rfl rfl rfl (by decide +kernel) ⟨Nat.le_of_ble_eq_true rfl, Nat.le_of_ble_eq_true rfl⟩) rfl rfl (lv_room (Nat.le_of_ble_eq_true rfl)) ⟨by show 0 + (bCst n cap).1 ≤ (bCst n cap).1; omega, by show 0 + (bCst n cap).2 ≤ (bCst n cap).2; omega⟩ (fun q h => Or.inl h) dJ3_add_20 (fun o H2 locs2 hPo hz2 hk2 hS2 => ?_)
  obtain ⟨rfl, ea1, g1, k1, k2, k3, k4, k5, k6⟩ := hPo
  refine lv_iconst (v := 1) hx hb dJ3_add_23 (by decide) ?_
  refine b_zret (v := 1) hC hS2 ⟨by show 0 + (bCst n cap).1 ≤ (bCst n cap).1; omega, by show 0 + (bCst n cap).2 ≤ (bCst n cap).2; omega⟩ (by decide) ⟨rfl, ea1, g1, k1, k2, k3, k4, k5, ?_⟩ dJ3_add_24
  rcases k6 with h | h
  · exact Or.inl h
  · exact Or.inr (by omega)
