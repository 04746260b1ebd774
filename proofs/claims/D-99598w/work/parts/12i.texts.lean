/-! String: length, charAt of the words -/
set_option maxRecDepth 100000
theorem wJ6_checkR {l : Launch} {i n : Int32} {q : Nat} (h1 : ¬ i < 0) (h2 : i < n) : sM l yJ6_checkIndex (ws_ yJ6_checkIndex cJ6_checkIndex 3 (some .int)) rm00 [.int i, .int n, .ref q] (some (.int i)) := by
  refine s_met (own := RJ6) (by decide) rfl (Nat.le_of_ble_eq_true rfl) (fun p e s m args below meth c hC => ?_)
  intro ls hl
  have hx := hC.1
  have hb := hC.2.1
  have hl : lv_has ls 3 [(0, .int i), (1, .int n), (2, .ref q)] := hl
  refine lv_iload_n hx hb dJ6_checkIndex_0 rfl (lv_at hl 0 rfl) ?_
  refine lv_if_lt (tgt := 9) hx hb dJ6_checkIndex_1 (by decide) (fun c_1 => absurd c_1 h1) (fun c_1 => ?_)
  refine lv_iload_n hx hb dJ6_checkIndex_4 rfl (lv_at hl 0 rfl) ?_
  refine lv_iload_n hx hb dJ6_checkIndex_5 rfl (lv_at hl 1 rfl) ?_
  refine lv_icmp_lt (tgt := 16) hx hb dJ6_checkIndex_6 (by decide) (fun c_2 => ?_) (fun c_2 => absurd h2 c_2)
  refine lv_iload_n hx hb dJ6_checkIndex_16 rfl (lv_at hl 0 rfl) ?_
  exact s_iret hC dJ6_checkIndex_17
theorem wJ4_checkIndex {l : Launch} {E : XE} {i n : Int32} (h1 : ¬ i < 0) (h2 : i < n) : bM l E bNo yJ4_checkIndex (ws_ yJ4_checkIndex cJ4_checkIndex 2 none) { frames := 1, cells := 0, slots := 0, locals := 30 } [.int i, .int n] (fun _ => True) (fun _ o _ => o = none) := by
  refine b_met (own := RJ4) (mn := "checkIndex") (by decide) rfl rfl (Nat.le_of_ble_eq_true rfl) (fun p e s m args below meth c hC hA ls hl hS => ?_)
  have hx := hC.1.1.1
  have hb := hC.1.1.2.1
  have hts := hC.1.1.2.2.2.2.2.2
  have hl : lv_has ls 2 [(0, .int i), (1, .int n)] := hl
  obtain ⟨aW, aN, aC, ad, -, -, -, -, ⟨c1, c2⟩, -⟩ := hC.2.1.2.2
  refine lv_iload_n hx hb dJ4_checkIndex_0 rfl (lv_at hl 0 rfl) ?_
  refine lv_iload_n hx hb dJ4_checkIndex_1 rfl (lv_at hl 1 rfl) ?_
  rcases c2 with c2 | ⟨q, c2⟩
  · refine b_gets hC hS c2 q426 dJ4_checkIndex_2 ?_
    refine s_calli [.int i, .int n, .null] hC.1.1 hl.1 (wJ6_check h1 h2) (va_cwS 3 hts (lw_S q428 q429 q133 q430) rfl rfl rfl cdJ6_check ⟨Nat.le_of_ble_eq_true rfl, Nat.le_of_ble_eq_true rfl⟩) rfl rfl (lv_room (Nat.le_of_ble_eq_true rfl)) ⟨Nat.zero_le _, Nat.zero_le _⟩ dJ4_checkIndex_5 ?_
    refine lv_pop hx hb dJ4_checkIndex_8 rfl ?_
    exact b_vret hC hS ⟨Nat.le_refl _, Nat.le_refl _⟩ rfl dJ4_checkIndex_9
  · refine b_gets hC hS c2 q426 dJ4_checkIndex_2 ?_
    refine s_calli [.int i, .int n, .ref q] hC.1.1 hl.1 (wJ6_checkR h1 h2) (va_cwS 3 hts (lw_S q428 q429 q133 q430) rfl rfl rfl cdJ6_check ⟨Nat.le_of_ble_eq_true rfl, Nat.le_of_ble_eq_true rfl⟩) rfl rfl (lv_room (Nat.le_of_ble_eq_true rfl)) ⟨Nat.zero_le _, Nat.zero_le _⟩ dJ4_checkIndex_5 ?_
    refine lv_pop hx hb dJ4_checkIndex_8 rfl ?_
    exact b_vret hC hS ⟨Nat.le_refl _, Nat.le_refl _⟩ rfl dJ4_checkIndex_9
theorem wJ4_isLatin1 {l : Launch} {E : XE} {i : Nat} (hi : i < 27) : bM l E bNo yJ4_isLatin1 (ws_ yJ4_isLatin1 cJ4_isLatin1 1 (some .boolean)) rm00 [.ref (bKs E i)] (fun _ => True) (fun _ o _ => o = some (.int 1)) := by
  refine b_met (own := RJ4) (mn := "isLatin1") (by decide) rfl rfl (Nat.le_of_ble_eq_true rfl) (fun p e s m args below meth c hC hA ls hl hS => ?_)
  have hx := hC.1.1.1
  have hb := hC.1.1.2.1
  have hown := hC.1.1.2.2.2.2.2.1
  have hts := hC.1.1.2.2.2.2.2.2
  have hl : lv_has ls 1 [(0, .ref (bKs E i))] := hl
  obtain ⟨aW, aN, aC, ad, -, -, -, ⟨s1, -⟩, ⟨c1, c2⟩, -⟩ := hC.2.1.2.2
  obtain ⟨t1, t2, t3, t4⟩ := s1 i hi
  refine b_gets hC hS c1 q410 dJ4_isLatin1_0 ?_
  refine lv_if_eq (tgt := 17) hx hb dJ4_isLatin1_3 (by decide) (fun c_1 => absurd c_1 (by decide)) (fun c_1 => ?_)
  refine lv_aload_n hx hb dJ4_isLatin1_6 rfl (lv_at hl 0 rfl) ?_
  refine vk_getf hx hb t2 (b_Sz hC hS) hown (hts _ q2050) (fun _ h => h) dJ4_isLatin1_7 ?_
  refine lv_if_ne (tgt := 17) hx hb dJ4_isLatin1_10 (by decide) (fun c_1 => absurd rfl c_1) (fun c_1 => ?_)
  refine lv_iconst (v := 1) hx hb dJ4_isLatin1_13 (by decide) ?_
  refine lv_goto (tgt := 18) hx hb dJ4_isLatin1_14 (by decide) ?_
  exact b_zret (v := 1) hC hS ⟨Nat.le_refl _, Nat.le_refl _⟩ (by decide) rfl dJ4_isLatin1_18
theorem wJ4_coder {l : Launch} {E : XE} {i : Nat} (hi : i < 27) : bM l E bNo yJ4_coder (ws_ yJ4_coder cJ4_coder 1 (some .byte)) rm00 [.ref (bKs E i)] (fun _ => True) (fun _ o _ => o = some (.int 0)) := by
  refine b_met (own := RJ4) (mn := "coder") (by decide) rfl rfl (Nat.le_of_ble_eq_true rfl) (fun p e s m args below meth c hC hA ls hl hS => ?_)
  have hx := hC.1.1.1
  have hb := hC.1.1.2.1
  have hown := hC.1.1.2.2.2.2.2.1
  have hts := hC.1.1.2.2.2.2.2.2
  have hl : lv_has ls 1 [(0, .ref (bKs E i))] := hl
  obtain ⟨aW, aN, aC, ad, -, -, -, ⟨s1, -⟩, ⟨c1, c2⟩, -⟩ := hC.2.1.2.2
  obtain ⟨t1, t2, t3, t4⟩ := s1 i hi
  refine b_gets hC hS c1 q410 dJ4_coder_0 ?_
  refine lv_if_eq (tgt := 13) hx hb dJ4_coder_3 (by decide) (fun c_1 => absurd c_1 (by decide)) (fun c_1 => ?_)
  refine lv_aload_n hx hb dJ4_coder_6 rfl (lv_at hl 0 rfl) ?_
  refine vk_getf hx hb t2 (b_Sz hC hS) hown (hts _ q2050) (fun _ h => h) dJ4_coder_7 ?_
  refine lv_goto (tgt := 14) hx hb dJ4_coder_10 (by decide) ?_
  exact b_nret (v := 0) hC hS ⟨Nat.le_refl _, Nat.le_refl _⟩ rfl rfl dJ4_coder_14
section BS
variable {p : Program} {l : Launch} {e : Env} {R : Room} {s : State} {m : MethodId} {args : Array Value} {below : List Frame} {meth : Method} {c : Code} {H : Heap} {locs : List Loc} {cells slots : Nat} {Q : State → Prop} {E : XE} {A : Nat → Prop} {mn own : String} {cc : ByteArray} {nL : Nat} {rt : Option FieldType} {ls : Array Slot} {pc : Nat} {rest : List Value}
theorem bS_recv (hC : bC E A mn own cc nL rt p s m args meth c) (hS : va_S (bW A s.heap.size) s.heap H locs) {i : Nat} (hi : i < 27) : ∃ cell : Cell, H[bKs E i]? = some cell ∧ cell.vm.isStatics = false ∧ s.vm.findClass RJ4 = some cell.cls := by
  obtain ⟨aW, aN, aC, ad, -, -, -, ⟨s1, -⟩, -⟩ := hC.2.1.2.2
  obtain ⟨cell, h1, h2, h3, -⟩ := (va_O.kept (s1 i hi).1 (b_Sz hC hS).2.1)
  exact ⟨cell, h1, h2, h3⟩
end BS
theorem wJ4_length {l : Launch} {E : XE} {i : Nat} (hi : i < 27) : bM l E bNo yJ4_length (ws_ yJ4_length cJ4_length 1 (some .int)) rm01 [.ref (bKs E i)] (fun _ => True) (fun _ o _ => o = some (.int (nI (bWords.getD i []).length))) := by
  refine b_met (own := RJ4) (mn := "length") (by decide) rfl rfl (Nat.le_of_ble_eq_true rfl) (fun p e s m args below meth c hC hA ls hl hS => ?_)
  have hx := hC.1.1.1
  have hb := hC.1.1.2.1
  have hown := hC.1.1.2.2.2.2.2.1
  have hts := hC.1.1.2.2.2.2.2.2
  have hl : lv_has ls 1 [(0, .ref (bKs E i))] := hl
  obtain ⟨aW, aN, aC, ad, -, -, -, ⟨s1, -⟩, ⟨c1, c2⟩, -⟩ := hC.2.1.2.2
  obtain ⟨t1, t2, t3, t4⟩ := s1 i hi
  refine lv_aload_n hx hb dJ4_length_0 rfl (lv_at hl 0 rfl) ?_
  refine vk_getf hx hb t3 (b_Sz hC hS) hown (hts _ q2049) (fun _ h => h) dJ4_length_1 ?_
  refine va_tlen hx hb t4 (b_Sz hC hS) (v := nI (bWords.getD i []).length) rfl dJ4_length_4 ?_
  refine lv_aload_n hx hb dJ4_length_5 rfl (lv_at hl 0 rfl) ?_
  refine b_callV [] (bKs E i) hC hS hl.1 (wJ4_coder hi) (fun _ h => h.elim) trivial (bS_recv hC hS hi) (cwV 0 hts (lw_V q406 q407 q408 q131 q409) rfl rfl rfl (by decide +kernel) ⟨Nat.le_of_ble_eq_true rfl, Nat.le_of_ble_eq_true rfl⟩) rfl rfl (lv_room (Nat.le_of_ble_eq_true rfl)) ⟨Nat.le_refl _, Nat.le_refl _⟩ (fun _ h => h.elim) dJ4_length_6 (fun o H1 locs1 hPo hz hk hS1 => ?_)
  subst hPo
  refine lv_ishr hx hb dJ4_length_9 ?_
  have e0 : ∀ i, i < 27 → nI (bWords.getD i []).length >>> ((0 : Int32) &&& 31) = nI (bWords.getD i []).length := by decide +kernel
  rw [e0 i hi]
  exact b_iret hC hS1 ⟨Nat.le_refl _, Nat.le_refl _⟩ rfl dJ4_length_10
theorem wJ5_charAt {l : Launch} {E : XE} {t n : Nat} {k : Int32} {w : Nat → Int32} {v : Int32} (h1 : ¬ k < 0) (h2 : k < nI n) (hn : n < 2 ^ 31) (hv : (((w k.toNatClampNeg) &&& 255).toUInt32 % 65536).toInt32 = v) (hc : narrow .char (.int v) = .int v) (hT : ∀ s : State, bG E s → bT .byte t n (fun j => .int (w j)) E s) : bM l E bNo yJ5_charAt (ws_ yJ5_charAt cJ5_charAt 2 (some .char)) { frames := 2, cells := 0, slots := 0, locals := 60 } [.ref t, .int k] (fun _ => True) (fun _ o _ => o = some (.int v)) := by
  refine b_met (own := RJ5) (mn := "charAt") (by decide) rfl rfl (Nat.le_of_ble_eq_true rfl) (fun p e s m args below meth c hC hA ls hl hS => ?_)
  have hx := hC.1.1.1
  have hb := hC.1.1.2.1
  have hts := hC.1.1.2.2.2.2.2.2
  have hl : lv_has ls 2 [(0, .ref t), (1, .int k)] := hl
  have t4 := hT s hC.2.1
  refine lv_iload_n hx hb dJ5_charAt_0 rfl (lv_at hl 1 rfl) ?_
  refine lv_aload_n hx hb dJ5_charAt_1 rfl (lv_at hl 0 rfl) ?_
  refine va_tlen hx hb t4 (b_Sz hC hS) (v := nI n) rfl dJ5_charAt_2 ?_
  refine b_callS [.int k, .int (nI n)] hC hS hl.1 (wJ4_checkIndex h1 h2) (fun _ h => h.elim) trivial (va_cwS 2 hts (lw_S q423 q424 q131 q425) rfl rfl rfl (by decide +kernel) ⟨Nat.le_of_ble_eq_true rfl, Nat.le_of_ble_eq_true rfl⟩) rfl rfl (lv_room (Nat.le_of_ble_eq_true rfl)) ⟨Nat.le_refl _, Nat.le_refl _⟩ (fun _ h => h.elim) dJ5_charAt_3 (fun o H1 locs1 hPo hz hk hS1 => ?_)
  subst hPo
  refine lv_aload_n hx hb dJ5_charAt_6 rfl (lv_at hl 0 rfl) ?_
  refine lv_iload_n hx hb dJ5_charAt_7 rfl (lv_at hl 1 rfl) ?_
  refine va_tb hx hb t4 (b_Sz hC hS1) (fun h => ?_) rfl dJ5_charAt_8 ?_
  · rcases h with h | h
    · exact h1 h
    · have g1 := Int32.lt_iff_toInt_lt.mp h2
      rw [nI_toInt hn] at g1
      have g0 := Int32.le_iff_toInt_le.mp (Int32.not_lt.mp h1)
      have g9 : (0 : Int32).toInt = 0 := rfl
      have g2 : k.toNatClampNeg = k.toInt.toNat := rfl
      omega
  refine lv_sipush (v := 255) hx hb dJ5_charAt_9 (by decide) ?_
  refine lv_iand hx hb dJ5_charAt_12 ?_
  refine lv_i2c (v := v) hx hb dJ5_charAt_13 hv ?_
  exact b_nret (v := v) hC hS1 ⟨Nat.le_refl _, Nat.le_refl _⟩ hc rfl dJ5_charAt_14
theorem bV_T {E : XE} {i : Nat} (hi : i < 27) : ∀ s : State, bG E s → bT .byte (bVs E i) (bWords.getD i []).length (fun j => .int ((bWords.getD i []).getD j 0)) E s := by
  intro s h
  obtain ⟨aW, aN, aC, ad, -, -, -, ⟨s1, -⟩, -⟩ := h.2.2
  exact (s1 i hi).2.2.2
theorem wJ4_charAt {l : Launch} {E : XE} {i k : Nat} (hi : i < 27) (hk : k < (bWords.getD i []).length) : bM l E bNo yJ4_charAt (ws_ yJ4_charAt cJ4_charAt 2 (some .char)) { frames := 3, cells := 0, slots := 0, locals := 90 } [.ref (bKs E i), .int (nI k)] (fun _ => True) (fun _ o _ => o = some (.int ((bWords.getD i []).getD k 0))) := by
  refine b_met (own := RJ4) (mn := "charAt") (by decide) rfl rfl (Nat.le_of_ble_eq_true rfl) (fun p e s m args below meth c hC hA ls hl hS => ?_)
  have hx := hC.1.1.1
  have hb := hC.1.1.2.1
  have hown := hC.1.1.2.2.2.2.2.1
  have hts := hC.1.1.2.2.2.2.2.2
  have hl : lv_has ls 2 [(0, .ref (bKs E i)), (1, .int (nI k))] := hl
  obtain ⟨aW, aN, aC, ad, -, -, -, ⟨s1, -⟩, -⟩ := hC.2.1.2.2
  obtain ⟨t1, t2, t3, t4⟩ := s1 i hi
  have hd : ∀ i, i < 27 → (bWords.getD i []).length < 20 ∧ ∀ k, k < (bWords.getD i []).length → ((((bWords.getD i []).getD k 0) &&& 255).toUInt32 % 65536).toInt32 = (bWords.getD i []).getD k 0 ∧ narrow .char (.int ((bWords.getD i []).getD k 0)) = .int ((bWords.getD i []).getD k 0) := by decide +kernel
  obtain ⟨d1, d2⟩ := hd i hi
  obtain ⟨d3, d4⟩ := d2 k hk
  have hck : (nI k).toNatClampNeg = k := nI_clamp (by omega)
  refine lv_aload_n hx hb dJ4_charAt_0 rfl (lv_at hl 0 rfl) ?_
  refine b_callV [] (bKs E i) hC hS hl.1 (wJ4_isLatin1 hi) (fun _ h => h.elim) trivial (bS_recv hC hS hi) (cwV 0 hts (lw_V q416 q417 q418 q131 q419) rfl rfl rfl (by decide +kernel) ⟨Nat.le_of_ble_eq_true rfl, Nat.le_of_ble_eq_true rfl⟩) rfl rfl (lv_room (Nat.le_of_ble_eq_true rfl)) ⟨Nat.le_refl _, Nat.le_refl _⟩ (fun _ h => h.elim) dJ4_charAt_1 (fun o H1 locs1 hPo hz hk1 hS1 => ?_)
  subst hPo
  refine lv_if_eq (tgt := 16) hx hb dJ4_charAt_4 (by decide) (fun c_1 => absurd c_1 (by decide)) (fun c_1 => ?_)
  refine lv_aload_n hx hb dJ4_charAt_7 rfl (lv_at hl 0 rfl) ?_
  refine vk_getf hx hb t3 (b_Sz hC hS1) hown (hts _ q2049) (fun _ h => h) dJ4_charAt_8 ?_
  refine lv_iload_n hx hb dJ4_charAt_11 rfl (lv_at hl 1 rfl) ?_
  refine b_callS [.ref (bVs E i), .int (nI k)] hC hS1 hl.1 (wJ5_charAt (nI_pos (by omega)) (nI_lt hk (by omega)) (by omega) (by rw [hck]; exact d3) d4 (bV_T hi)) (fun _ h => h.elim) trivial (va_cwS 2 hts (lw_S q420 q421 q132 q422) rfl rfl rfl (by decide +kernel) ⟨Nat.le_of_ble_eq_true rfl, Nat.le_of_ble_eq_true rfl⟩) rfl rfl (lv_room (Nat.le_of_ble_eq_true rfl)) ⟨Nat.le_refl _, Nat.le_refl _⟩ (fun _ h => h.elim) dJ4_charAt_12 (fun o H2 locs2 hPo hz2 hk2 hS2 => ?_)
  subst hPo
  exact b_nret hC hS2 ⟨Nat.le_refl _, Nat.le_refl _⟩ d4 rfl dJ4_charAt_15
