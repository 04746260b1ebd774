/-! Tokens: its state, the methods that throw nothing -/
set_option maxRecDepth 100000
/-- at, token, sort, number, open, kind -/
abbrev TS : Type := Nat × Nat × Int32 × Int32 × Nat × Int32
def TkAt (E : XE) (q0 tp n : Nat) (f : Nat → Int32) (z : TS) (H : Heap) : Prop := va_at E.1 E.2.1 (q0, .inr (3, [.ref tp, .int (nI n), .int (nI z.1), .int (nI z.2.1), .int z.2.2.1, .int z.2.2.2.1, .int (nI z.2.2.2.2.1), .int z.2.2.2.2.2])) H ∧ va_at E.1 E.2.1 (tp, .inl (E.2.2.2.1 1, 300, .inl f)) H ∧ tp ≠ q0
def kLet (c : Int32) : Bool := (decide (97 ≤ c) && decide (c ≤ 122)) || (decide (65 ≤ c) && decide (c ≤ 90))
def kDig (c : Int32) : Bool := decide (48 ≤ c) && decide (c ≤ 57)
def kB (b : Bool) : Int32 := if b then 1 else 0
theorem wX3_isLetter {l : Launch} {x : Int32} : sM l yX3_isLetter (ws_ yX3_isLetter cX3_isLetter 1 (some .boolean)) rm00 [.int x] (some (.int (kB (kLet x)))) := by
  refine s_met (own := RX3) (by decide) rfl (Nat.le_of_ble_eq_true rfl) (fun p e s m args below meth c hC => ?_)
  intro ls hl
  have hx := hC.1
  have hb := hC.2.1
  have hl : lv_has ls 1 [(0, .int x)] := hl
  have yes : kLet x = true → W p l e rm00 s m args below meth c s.heap [] 0 0 (sQ below args s (some (.int (kB (kLet x))))) (F0 m 24 ls []) := by
    intro h
    rw [h]
    refine lv_iconst (v := 1) hx hb dX3_isLetter_24 (by decide) ?_
    refine lv_goto (tgt := 29) hx hb dX3_isLetter_25 (by decide) ?_
    exact s_zret (v := 1) hC (by decide) dX3_isLetter_29
  have no : kLet x = false → W p l e rm00 s m args below meth c s.heap [] 0 0 (sQ below args s (some (.int (kB (kLet x))))) (F0 m 28 ls []) := by
    intro h
    rw [h]
    refine lv_iconst (v := 0) hx hb dX3_isLetter_28 (by decide) ?_
    exact s_zret (v := 0) hC (by decide) dX3_isLetter_29
  have low : ¬ (97 ≤ x ∧ x ≤ 122) → W p l e rm00 s m args below meth c s.heap [] 0 0 (sQ below args s (some (.int (kB (kLet x))))) (F0 m 12 ls []) := by
    intro h
    refine lv_iload_n hx hb dX3_isLetter_12 rfl (lv_at hl 0 rfl) ?_
    refine lv_bipush (v := 65) hx hb dX3_isLetter_13 (by decide) ?_
    refine lv_icmp_lt (tgt := 28) hx hb dX3_isLetter_15 (by decide) (fun c_1 => no ?_) (fun c_1 => ?_)
    · have := Int32.not_le.mpr c_1
      simp [kLet, this]
      simpa using h
    refine lv_iload_n hx hb dX3_isLetter_18 rfl (lv_at hl 0 rfl) ?_
    refine lv_bipush (v := 90) hx hb dX3_isLetter_19 (by decide) ?_
    refine lv_icmp_gt (tgt := 28) hx hb dX3_isLetter_21 (by decide) (fun c_2 => no ?_) (fun c_2 => yes ?_)
    · have := Int32.not_le.mpr c_2
      simp [kLet, this]
      simpa using h
    · have h1 := Int32.not_lt.mp c_1
      have h2 := Int32.not_lt.mp c_2
      simp [kLet, h1, h2]
  refine lv_iload_n hx hb dX3_isLetter_0 rfl (lv_at hl 0 rfl) ?_
  refine lv_bipush (v := 97) hx hb dX3_isLetter_1 (by decide) ?_
  refine lv_icmp_lt (tgt := 12) hx hb dX3_isLetter_3 (by decide) (fun c_1 => low (fun h => absurd h.1 (Int32.not_le.mpr c_1))) (fun c_1 => ?_)
  refine lv_iload_n hx hb dX3_isLetter_6 rfl (lv_at hl 0 rfl) ?_
  refine lv_bipush (v := 122) hx hb dX3_isLetter_7 (by decide) ?_
  refine lv_icmp_le (tgt := 24) hx hb dX3_isLetter_9 (by decide) (fun c_2 => yes ?_) (fun c_2 => low (fun h => absurd h.2 c_2))
  have h1 := Int32.not_lt.mp c_1
  simp [kLet, h1, c_2]
theorem wX3_isDigit {l : Launch} {x : Int32} : sM l yX3_isDigit (ws_ yX3_isDigit cX3_isDigit 1 (some .boolean)) rm00 [.int x] (some (.int (kB (kDig x)))) := by
  refine s_met (own := RX3) (by decide) rfl (Nat.le_of_ble_eq_true rfl) (fun p e s m args below meth c hC => ?_)
  intro ls hl
  have hx := hC.1
  have hb := hC.2.1
  have hl : lv_has ls 1 [(0, .int x)] := hl
  have no : kDig x = false → W p l e rm00 s m args below meth c s.heap [] 0 0 (sQ below args s (some (.int (kB (kDig x))))) (F0 m 16 ls []) := by
    intro h
    rw [h]
    refine lv_iconst (v := 0) hx hb dX3_isDigit_16 (by decide) ?_
    exact s_zret (v := 0) hC (by decide) dX3_isDigit_17
  refine lv_iload_n hx hb dX3_isDigit_0 rfl (lv_at hl 0 rfl) ?_
  refine lv_bipush (v := 48) hx hb dX3_isDigit_1 (by decide) ?_
  refine lv_icmp_lt (tgt := 16) hx hb dX3_isDigit_3 (by decide) (fun c_1 => no ?_) (fun c_1 => ?_)
  · have := Int32.not_le.mpr c_1
    simp [kDig, this]
  refine lv_iload_n hx hb dX3_isDigit_6 rfl (lv_at hl 0 rfl) ?_
  refine lv_bipush (v := 57) hx hb dX3_isDigit_7 (by decide) ?_
  refine lv_icmp_gt (tgt := 16) hx hb dX3_isDigit_9 (by decide) (fun c_2 => no ?_) (fun c_2 => ?_)
  · have := Int32.not_le.mpr c_2
    simp [kDig, this]
  have h1 := Int32.not_lt.mp c_1
  have h2 := Int32.not_lt.mp c_2
  have e9 : kDig x = true := by simp [kDig, h1, h2]
  rw [e9]
  refine lv_iconst (v := 1) hx hb dX3_isDigit_12 (by decide) ?_
  refine lv_goto (tgt := 17) hx hb dX3_isDigit_13 (by decide) ?_
  exact s_zret (v := 1) hC (by decide) dX3_isDigit_17
/-- new Wrong(fault, token) -/
theorem wX3_wrong {l : Launch} {E : XE} {q0 tp n : Nat} {f : Nat → Int32} {z : TS} {x : Int32} (hl0 : l.stackTraces = false) : bM l E bNo yX3_wrong (ws_ yX3_wrong cX3_wrong 2 (some (.object "RailingsCount$Wrong"))) { frames := 9, cells := 1, slots := 8, locals := 180 } [.ref q0, .int x] (fun H => TkAt E q0 tp n f z H ∧ bN E H) (fun sz o H => o = some (.ref sz) ∧ ∃ w0 w1 w2 w3 w4 w5, va_at E.1 E.2.1 (sz, .inr (4, [w0, w1, w2, w3, w4, w5, .int x, .int (nI z.2.1)])) H) := by
  refine b_met (own := RX3) (mn := "wrong") (by decide) rfl rfl (Nat.le_of_ble_eq_true rfl) (fun p e s m args below meth c hC hA ls hl hS => ?_)
  obtain ⟨⟨hA, hT, hne⟩, hN⟩ := hA
  have hx := hC.1.1.1
  have hb := hC.1.1.2.1
  have hown := hC.1.1.2.2.2.2.2.1
  have hts := hC.1.1.2.2.2.2.2.2
  have hK := hC.1.2.1
  have hl : lv_has ls 2 [(0, .ref q0), (1, .int x)] := hl
  have hce := hC.1.2.2.1 4 _ rfl
  have hKn := hK.1 4 _ hce
  refine W.newcK hx hb hown (hts _ q462) (hts _ q463) (hts _ q138) rfl dX3_wrong_0 (by show 0 + 1 ≤ 1; omega) (by show 0 + 8 ≤ 8; omega) hKn.2.1 rfl fun H1 kC hkC e1 z1 o1 => ?_
  have hA1 : va_at E.1 E.2.1 (s.heap.size, .inr (4, [.null, .null, .null, .null, .null, .int 0, .int 0, .int 0])) H1 := ⟨_, hce, (u_born tyX5 hts in_X5 hKn hkC e1 tyX5_ok).to (by decide +kernel)⟩
  have hS1 : va_S (bW bNo s.heap.size) s.heap H1 [] := ⟨by omega, fun q h1 h2 => o1 q h1, fun _ h => by cases h⟩
  have hT1 := hA.kept (o1 q0 hA.lt)
  refine lv_dup hx hb dX3_wrong_3 rfl ?_
  refine lv_iload_n hx hb dX3_wrong_4 rfl (lv_at hl 1 rfl) ?_
  refine lv_aload_n hx hb dX3_wrong_5 rfl (lv_at hl 0 rfl) ?_
  refine e_get (k := 3) (D := RX3) hC.1 hT1 in_X3 (ci := 3) rfl (by decide) q315 rfl rfl dX3_wrong_6 ?_
  refine b_callI [.int x, .int (nI z.2.1)] s.heap.size hC hS1 hl.1 (wX5_init (a := s.heap.size) hl0) (fun q hq => by rw [hq]; exact hN _ (Nat.le_refl _)) ⟨hA1, ⟨_, e1, rfl, rfl⟩⟩ (cwI 2 hts (lw_meth q501) rfl rfl rfl (hts _ q138) (hts _ q499) (hts _ q500) rfl (by decide +kernel) ⟨Nat.le_of_ble_eq_true rfl, Nat.le_of_ble_eq_true rfl⟩) rfl rfl (lv_room (Nat.le_of_ble_eq_true rfl)) ⟨by show 0 + 1 + 0 ≤ 1; omega, by show 0 + 8 + 0 ≤ 8; omega⟩ (fun q hq => by rw [hq]; exact Or.inr (Nat.le_refl _)) dX3_wrong_9 (fun o H2 locs2 hPo hz2 hk2 hS2 => ?_)
  obtain ⟨rfl, w0, w1, w2, w3, w4, w5, hA2⟩ := hPo
  exact b_aret hC (Or.inl ⟨_, rfl⟩) hS2 ⟨by show 0 + 1 + 0 ≤ 1; omega, by show 0 + 8 + 0 ≤ 8; omega⟩ ⟨rfl, w0, w1, w2, w3, w4, w5, hA2⟩ dX3_wrong_12
def kMay (kind x : Int32) : Bool := decide (x < 4) || decide (kind = 200)
theorem wX3_mayName {l : Launch} {E : XE} {q0 tp n : Nat} {f : Nat → Int32} {z : TS} {x : Int32} : bM l E bNo yX3_mayName (ws_ yX3_mayName cX3_mayName 2 (some .boolean)) rm00 [.ref q0, .int x] (TkAt E q0 tp n f z) (fun _ o _ => o = some (.int (kB (kMay z.2.2.2.2.2 x)))) := by
  refine b_met (own := RX3) (mn := "mayName") (by decide) rfl rfl (Nat.le_of_ble_eq_true rfl) (fun p e s m args below meth c hC hA ls hl hS => ?_)
  obtain ⟨hA, hT, hne⟩ := hA
  have hx := hC.1.1.1
  have hb := hC.1.1.2.1
  have hl : lv_has ls 2 [(0, .ref q0), (1, .int x)] := hl
  have yes : kMay z.2.2.2.2.2 x = true → W p l e rm00 s m args below meth c s.heap [] 0 0 (bQ bNo rm00 below args s (fun o _ => o = some (.int (kB (kMay z.2.2.2.2.2 x))))) (F0 m 15 ls []) := by
    intro h
    refine lv_iconst (v := 1) hx hb dX3_mayName_15 (by decide) ?_
    refine lv_goto (tgt := 20) hx hb dX3_mayName_16 (by decide) ?_
    exact b_zret (v := 1) hC hS ⟨Nat.le_refl _, Nat.le_refl _⟩ (by decide) (by rw [h]; rfl) dX3_mayName_20
  refine lv_iload_n hx hb dX3_mayName_0 rfl (lv_at hl 1 rfl) ?_
  refine lv_iconst (v := 4) hx hb dX3_mayName_1 (by decide) ?_
  refine lv_icmp_lt (tgt := 15) hx hb dX3_mayName_2 (by decide) (fun c_1 => yes (by simp [kMay, c_1])) (fun c_1 => ?_)
  refine lv_aload_n hx hb dX3_mayName_5 rfl (lv_at hl 0 rfl) ?_
  refine e_get (k := 7) (D := RX3) hC.1 hA in_X3 (ci := 3) rfl (by decide) q319 rfl rfl dX3_mayName_6 ?_
  refine lv_sipush (v := 200) hx hb dX3_mayName_9 (by decide) ?_
  refine lv_icmp_ne (tgt := 19) hx hb dX3_mayName_12 (by decide) (fun c_2 => ?_) (fun c_2 => yes ?_)
  · have e9 : kMay z.2.2.2.2.2 x = false := by
      unfold kMay
      rw [decide_eq_false c_1, decide_eq_false c_2]
      rfl
    refine lv_iconst (v := 0) hx hb dX3_mayName_19 (by decide) ?_
    exact b_zret (v := 0) hC hS ⟨Nat.le_refl _, Nat.le_refl _⟩ (by decide) (by rw [e9]; rfl) dX3_mayName_20
  · unfold kMay
    rw [decide_eq_true c_2]
    simp
def kNmF (s : Int32) : Nat → Nat → Int32
  | 0, _ => -1
  | j + 1, k => if bNamed.getD k 0 = s then nI k else kNmF s j (k + 1)
def kName (s : Int32) : Int32 := kNmF s 8 0
theorem wX3_nameNow {l : Launch} {E : XE} {q0 tp n : Nat} {f : Nat → Int32} {z : TS} : bM l E bNo yX3_nameNow (ws_ yX3_nameNow cX3_nameNow 2 (some .int)) rm00 [.ref q0] (TkAt E q0 tp n f z) (fun _ o _ => o = some (.int (kName z.2.2.1))) := by
  refine b_met (own := RX3) (mn := "nameNow") (by decide) rfl rfl (Nat.le_of_ble_eq_true rfl) (fun p e s m args below meth c hC hA ls hl hS => ?_)
  obtain ⟨hA, hT, hne⟩ := hA
  have hx := hC.1.1.1
  have hb := hC.1.1.2.1
  have hl : lv_has ls 2 [(0, .ref q0)] := hl
  obtain ⟨aW, aN, aC, ad, -, -, ⟨n1, n2⟩, -⟩ := hC.2.1.2.2
  have loop : ∀ (j k : Nat), j + k = 8 → ∀ ls : Array Slot, lv_has ls 2 [(1, .int (nI k)), (0, .ref q0)] → kNmF z.2.2.1 j k = kName z.2.2.1 → W p l e rm00 s m args below meth c s.heap [] 0 0 (bQ bNo rm00 below args s (fun o _ => o = some (.int (kName z.2.2.1)))) (F0 m 2 ls []) := by
    intro j
    induction j with
    | zero =>
      intro k hk ls hl hr
      refine lv_iload_n hx hb dX3_nameNow_2 rfl (lv_at hl 0 rfl) ?_
      refine b_gets hC hS n1 q738 dX3_nameNow_3 ?_
      refine va_tlen hx hb n2 (b_Sz hC hS) (v := nI 8) rfl dX3_nameNow_6 ?_
      refine lv_icmp_ge (tgt := 30) hx hb dX3_nameNow_7 (by decide) (fun c_1 => ?_) (fun c_1 => absurd (nI_le (a := 8) (b := k) (by omega) (by omega)) c_1)
      refine lv_iconst (v := -1) hx hb dX3_nameNow_30 (by decide) ?_
      exact b_iret hC hS ⟨Nat.le_refl _, Nat.le_refl _⟩ (by rw [← hr]; rfl) dX3_nameNow_31
    | succ j ih =>
      intro k hk ls hl hr
      refine lv_iload_n hx hb dX3_nameNow_2 rfl (lv_at hl 0 rfl) ?_
      refine b_gets hC hS n1 q738 dX3_nameNow_3 ?_
      refine va_tlen hx hb n2 (b_Sz hC hS) (v := nI 8) rfl dX3_nameNow_6 ?_
      refine lv_icmp_ge (tgt := 30) hx hb dX3_nameNow_7 (by decide) (fun c_1 => absurd c_1 (nI_ge (by omega) (by omega))) (fun c_1 => ?_)
      refine b_gets hC hS n1 q738 dX3_nameNow_10 ?_
      refine lv_iload_n hx hb dX3_nameNow_13 rfl (lv_at hl 0 rfl) ?_
      refine va_ti hx hb n2 (b_Sz hC hS) (nI_in (by omega) (by omega)) (v := .int (bNamed.getD k 0)) (by rw [nI_clamp (by omega)]) dX3_nameNow_14 ?_
      refine lv_aload_n hx hb dX3_nameNow_15 rfl (lv_at hl 1 rfl) ?_
      refine e_get (k := 4) (D := RX3) hC.1 hA in_X3 (ci := 3) rfl (by decide) q316 rfl rfl dX3_nameNow_16 ?_
      refine lv_icmp_ne (tgt := 24) hx hb dX3_nameNow_19 (by decide) (fun c_2 => ?_) (fun c_2 => ?_)
      · refine lv_iinc (v := nI (k + 1)) (lv' := [(1, .int (nI (k + 1))), (0, .ref q0)]) hx hb dX3_nameNow_24 hl (k := 0) rfl (by rw [nI_succ]; rfl) (Nat.le_of_ble_eq_true rfl) rfl (fun ls hl => ?_)
        refine lv_goto (tgt := 2) hx hb dX3_nameNow_27 (by decide) ?_
        refine ih (k + 1) (by omega) ls hl ?_
        rw [← hr, kNmF, if_neg c_2]
      · refine lv_iload_n hx hb dX3_nameNow_22 rfl (lv_at hl 0 rfl) ?_
        exact b_iret hC hS ⟨Nat.le_refl _, Nat.le_refl _⟩ (by rw [← hr, kNmF, if_pos c_2]) dX3_nameNow_23
  refine lv_iconst (v := 0) hx hb dX3_nameNow_0 (by decide) ?_
  refine lv_istore_n (lv' := [(1, .int (nI 0)), (0, .ref q0)]) hx hb dX3_nameNow_1 rfl hl (Nat.le_of_ble_eq_true rfl) rfl (fun ls hl => ?_)
  exact loop 8 0 rfl ls hl rfl
def kWdF (f : Nat → Int32) (t : Nat) (w : List Int32) : Nat → Nat → Bool
  | 0, _ => true
  | j + 1, k => if f (t + k) = w.getD k 0 then kWdF f t w j (k + 1) else false
/-- what lies from t to u is the word w -/
def kWord (f : Nat → Int32) (t u : Nat) (w : List Int32) : Bool := if u - t = w.length then kWdF f t w w.length 0 else false
theorem wX3_isWord {l : Launch} {E : XE} {q0 tp n i : Nat} {f : Nat → Int32} {z : TS} (hi : i < 27) (h1 : z.2.1 ≤ z.1) (h2 : z.1 ≤ 300) : bM l E bNo yX3_isWord (ws_ yX3_isWord cX3_isWord 3 (some .boolean)) { frames := 4, cells := 0, slots := 0, locals := 120 } [.ref q0, .ref (bKs E i)] (TkAt E q0 tp n f z) (fun _ o _ => o = some (.int (kB (kWord f z.2.1 z.1 (bWords.getD i []))))) := by
  refine b_met (own := RX3) (mn := "isWord") (by decide) rfl rfl (Nat.le_of_ble_eq_true rfl) (fun p e s m args below meth c hC hA ls hl hS => ?_)
  obtain ⟨hA, hT, hne⟩ := hA
  have hx := hC.1.1.1
  have hb := hC.1.1.2.1
  have hts := hC.1.1.2.2.2.2.2.2
  have hl : lv_has ls 3 [(0, .ref q0), (1, .ref (bKs E i))] := hl
  have hd : ∀ i, i < 27 → (bWords.getD i []).length < 20 := by decide +kernel
  have hd := hd i hi
  generalize hw : bWords.getD i [] = w at hd
  have no : ∀ (H1 : Heap) (locs1 : List Loc) (ls : Array Slot) (pc : Nat), (pc = 16 ∨ pc = 47) → va_S (bW bNo s.heap.size) s.heap H1 locs1 → kWord f z.2.1 z.1 w = false → W p l e { frames := 4, cells := 0, slots := 0, locals := 120 } s m args below meth c H1 locs1 0 0 (bQ bNo { frames := 4, cells := 0, slots := 0, locals := 120 } below args s (fun o _ => o = some (.int (kB (kWord f z.2.1 z.1 w))))) (F0 m pc ls []) := by
    intro H1 locs1 ls pc hp hS1 h
    rw [h]
    rcases hp with rfl | rfl
    · refine lv_iconst (v := 0) hx hb dX3_isWord_16 (by decide) ?_
      exact b_zret (v := 0) hC hS1 ⟨Nat.le_refl _, Nat.le_refl _⟩ (by decide) rfl dX3_isWord_17
    · refine lv_iconst (v := 0) hx hb dX3_isWord_47 (by decide) ?_
      exact b_zret (v := 0) hC hS1 ⟨Nat.le_refl _, Nat.le_refl _⟩ (by decide) rfl dX3_isWord_48
  have loop : z.1 - z.2.1 = w.length → ∀ (j k : Nat), j + k = w.length → ∀ (H1 : Heap) (locs1 : List Loc) (ls : Array Slot), va_S (bW bNo s.heap.size) s.heap H1 locs1 → (∀ q, q < s.heap.size → H1[q]? = s.heap[q]?) → lv_has ls 3 [(2, .int (nI k)), (0, .ref q0), (1, .ref (bKs E i))] → kWdF f z.2.1 w j k = kWord f z.2.1 z.1 w → W p l e { frames := 4, cells := 0, slots := 0, locals := 120 } s m args below meth c H1 locs1 0 0 (bQ bNo { frames := 4, cells := 0, slots := 0, locals := 120 } below args s (fun o _ => o = some (.int (kB (kWord f z.2.1 z.1 w))))) (F0 m 20 ls []) := by
    intro hlen j
    induction j with
    | zero =>
      intro k hk H1 locs1 ls hS1 hk1 hl hr
      refine lv_iload_n hx hb dX3_isWord_20 rfl (lv_at hl 0 rfl) ?_
      refine lv_aload_n hx hb dX3_isWord_21 rfl (lv_at hl 2 rfl) ?_
      refine b_callV [] (bKs E i) hC hS1 hl.1 (wJ4_length hi) (fun _ h => h.elim) trivial (bS_recv hC hS1 hi) (cwV 0 hts (lw_V q402 q403 q404 q131 q405) rfl rfl rfl (by decide +kernel) ⟨Nat.le_of_ble_eq_true rfl, Nat.le_of_ble_eq_true rfl⟩) rfl rfl (lv_room (Nat.le_of_ble_eq_true rfl)) ⟨Nat.le_refl _, Nat.le_refl _⟩ (fun _ h => h.elim) dX3_isWord_22 (fun o H2 locs2 hPo hz2 hk2 hS2 => ?_)
      subst hPo
      rw [hw]
      refine lv_icmp_ge (tgt := 55) hx hb dX3_isWord_25 (by decide) (fun c_1 => ?_) (fun c_1 => absurd (nI_le (a := w.length) (b := k) (by omega) (by omega)) c_1)
      refine lv_iconst (v := 1) hx hb dX3_isWord_55 (by decide) ?_
      exact b_zret (v := 1) hC hS2 ⟨Nat.le_refl _, Nat.le_refl _⟩ (by decide) (by rw [← hr]; rfl) dX3_isWord_56
    | succ j ih =>
      intro k hk H1 locs1 ls hS1 hk1 hl hr
      refine lv_iload_n hx hb dX3_isWord_20 rfl (lv_at hl 0 rfl) ?_
      refine lv_aload_n hx hb dX3_isWord_21 rfl (lv_at hl 2 rfl) ?_
      refine b_callV [] (bKs E i) hC hS1 hl.1 (wJ4_length hi) (fun _ h => h.elim) trivial (bS_recv hC hS1 hi) (cwV 0 hts (lw_V q402 q403 q404 q131 q405) rfl rfl rfl (by decide +kernel) ⟨Nat.le_of_ble_eq_true rfl, Nat.le_of_ble_eq_true rfl⟩) rfl rfl (lv_room (Nat.le_of_ble_eq_true rfl)) ⟨Nat.le_refl _, Nat.le_refl _⟩ (fun _ h => h.elim) dX3_isWord_22 (fun o H2 locs2 hPo hz2 hk2 hS2 => ?_)
      subst hPo
      rw [hw]
      have ka : ∀ q, q < s.heap.size → H2[q]? = s.heap[q]? := fun q hq => by rw [hk2 q (Nat.lt_of_lt_of_le hq hS1.1) (fun h => h), hk1 q hq]
      refine lv_icmp_ge (tgt := 55) hx hb dX3_isWord_25 (by decide) (fun c_1 => absurd c_1 (nI_ge (by omega) (by omega))) (fun c_1 => ?_)
      have hA2 := hA.kept (ka q0 hA.lt)
      have hT2 := hT.kept (ka tp hT.lt)
      refine lv_aload_n hx hb dX3_isWord_28 rfl (lv_at hl 1 rfl) ?_
      refine e_get (k := 0) (D := RX3) hC.1 hA2 in_X3 (ci := 3) rfl (by decide) q312 rfl rfl dX3_isWord_29 ?_
      refine lv_aload_n hx hb dX3_isWord_32 rfl (lv_at hl 1 rfl) ?_
      refine e_get (k := 3) (D := RX3) hC.1 hA2 in_X3 (ci := 3) rfl (by decide) q315 rfl rfl dX3_isWord_33 ?_
      refine lv_iload_n hx hb dX3_isWord_36 rfl (lv_at hl 0 rfl) ?_
      refine lv_iadd hx hb dX3_isWord_37 ?_
      rw [nI_add]
      refine va_bald hx hb hC.1.2.1 (e_one hT2) 0 1 rfl rfl (nI_in (by omega) (by omega)) dX3_isWord_38 ?_
      rw [nI_clamp (by omega)]
      refine lv_aload_n hx hb dX3_isWord_39 rfl (lv_at hl 2 rfl) ?_
      refine lv_iload_n hx hb dX3_isWord_40 rfl (lv_at hl 0 rfl) ?_
      refine b_callV [.int (nI k)] (bKs E i) hC hS2 hl.1 (wJ4_charAt hi (k := k) (by rw [hw]; omega)) (fun _ h => h.elim) trivial (bS_recv hC hS2 hi) (cwV 1 hts (lw_V q412 q413 q414 q131 q415) rfl rfl rfl (by decide +kernel) ⟨Nat.le_of_ble_eq_true rfl, Nat.le_of_ble_eq_true rfl⟩) rfl rfl (lv_room (Nat.le_of_ble_eq_true rfl)) ⟨Nat.le_refl _, Nat.le_refl _⟩ (fun _ h => h.elim) dX3_isWord_41 (fun o H3 locs3 hPo hz3 hk3 hS3 => ?_)
      subst hPo
      rw [hw]
      refine lv_icmp_eq (tgt := 49) hx hb dX3_isWord_44 (by decide) (fun c_2 => ?_) (fun c_2 => ?_)
      · refine lv_iinc (v := nI (k + 1)) (lv' := [(2, .int (nI (k + 1))), (0, .ref q0), (1, .ref (bKs E i))]) hx hb dX3_isWord_49 hl (k := 0) rfl (by rw [nI_succ]; rfl) (Nat.le_of_ble_eq_true rfl) rfl (fun ls hl => ?_)
        refine lv_goto (tgt := 20) hx hb dX3_isWord_52 (by decide) ?_
        refine ih (k + 1) (by omega) H3 locs3 ls hS3 (fun q hq => by rw [hk3 q (Nat.lt_of_lt_of_le hq hS2.1) (fun h => h), ka q hq]) hl ?_
        rw [← hr, kWdF, if_pos c_2]
      · refine no H3 locs3 ls 47 (Or.inr rfl) hS3 ?_
        rw [← hr, kWdF, if_neg c_2]
  refine lv_aload_n hx hb dX3_isWord_0 rfl (lv_at hl 0 rfl) ?_
  refine e_get (k := 2) (D := RX3) hC.1 hA in_X3 (ci := 3) rfl (by decide) q314 rfl rfl dX3_isWord_1 ?_
  refine lv_aload_n hx hb dX3_isWord_4 rfl (lv_at hl 0 rfl) ?_
  refine e_get (k := 3) (D := RX3) hC.1 hA in_X3 (ci := 3) rfl (by decide) q315 rfl rfl dX3_isWord_5 ?_
  refine lv_isub hx hb dX3_isWord_8 ?_
  rw [pk_sub h1]
  refine lv_aload_n hx hb dX3_isWord_9 rfl (lv_at hl 1 rfl) ?_
  refine b_callV [] (bKs E i) hC hS hl.1 (wJ4_length hi) (fun _ h => h.elim) trivial (bS_recv hC hS hi) (cwV 0 hts (lw_V q402 q403 q404 q131 q405) rfl rfl rfl (by decide +kernel) ⟨Nat.le_of_ble_eq_true rfl, Nat.le_of_ble_eq_true rfl⟩) rfl rfl (lv_room (Nat.le_of_ble_eq_true rfl)) ⟨Nat.le_refl _, Nat.le_refl _⟩ (fun _ h => h.elim) dX3_isWord_10 (fun o H2 locs2 hPo hz2 hk2 hS2 => ?_)
  subst hPo
  rw [hw]
  refine lv_icmp_eq (tgt := 18) hx hb dX3_isWord_13 (by decide) (fun c_1 => ?_) (fun c_1 => ?_)
  · have hlen : z.1 - z.2.1 = w.length := (nI_eq (by omega) (by omega)).mp c_1
    refine lv_iconst (v := 0) hx hb dX3_isWord_18 (by decide) ?_
    refine lv_istore_n (lv' := [(2, .int (nI 0)), (0, .ref q0), (1, .ref (bKs E i))]) hx hb dX3_isWord_19 rfl hl (Nat.le_of_ble_eq_true rfl) rfl (fun ls hl => ?_)
    exact loop hlen w.length 0 (by omega) H2 locs2 ls hS2 (fun q hq => hk2 q hq (fun h => h)) hl (by unfold kWord; rw [if_pos hlen])
  · refine no H2 locs2 ls 16 (Or.inl rfl) hS2 ?_
    unfold kWord
    rw [if_neg (fun h => c_1 (by rw [h]))]
