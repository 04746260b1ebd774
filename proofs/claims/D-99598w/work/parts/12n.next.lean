/-! Tokens.next -/
set_option maxRecDepth 100000
section TK
variable {p : Program} {l : Launch} {e : Env} {R : Room} {s : State} {m : MethodId} {args : Array Value} {below : List Frame} {meth : Method} {c : Code} {H : Heap} {locs : List Loc} {cells slots : Nat} {Q : State → Prop} {E : XE} {A : Nat → Prop} {mn : String} {cc : ByteArray} {nL : Nat} {rt : Option FieldType} {ls : Array Slot} {pc : Nat} {rest : List Value} {q0 tp n : Nat} {f : Nat → Int32} {z : TS} {lv : List (Nat × Value)}
/-- text[at] -/
theorem t_ch (hC : bC E A mn RX3 cc nL rt p s m args meth c) (hT : TkAt E q0 tp n f z H) (hl : ls[0]? = some (.val (.ref q0))) (ha : z.1 < 300) (d0 : decode cc pc = .ok (.aload_n 0, 1)) (d1 : decode cc (pc + 1) = .ok (.getfield 9, 3)) (d2 : decode cc (pc + 4) = .ok (.aload_n 0, 1)) (d3 : decode cc (pc + 5) = .ok (.getfield 19, 3)) (d4 : decode cc (pc + 8) = .ok (.baload, 1))
    (kk : W p l e R s m args below meth c H locs cells slots Q (F0 m (pc + 9) ls (.int (f z.1) :: rest))) : W p l e R s m args below meth c H locs cells slots Q (F0 m pc ls rest) := by
  have hx := hC.1.1.1
  have hb := hC.1.1.2.1
  obtain ⟨hA, hB, hne⟩ := hT
  refine lv_aload_n hx hb d0 rfl hl ?_
  refine e_get (k := 0) (D := RX3) hC.1 hA in_X3 (ci := 3) rfl (by decide) q312 rfl rfl d1 ?_
  refine lv_aload_n hx hb d2 rfl hl ?_
  refine e_get (k := 2) (D := RX3) hC.1 hA in_X3 (ci := 3) rfl (by decide) q314 rfl rfl d3 ?_
  refine va_bald hx hb hC.1.2.1 (e_one hB) 0 1 rfl rfl (nI_in ha (by omega)) d4 ?_
  rw [nI_clamp (by omega)]
  exact kk
/-- a field of ints put -/
theorem t_put {k index : Nat} {v : Int32} {z1 : TS} (hC : bC E (b1 q0) mn RX3 cc nL rt p s m args meth c) (hS : va_S (bW (b1 q0) s.heap.size) s.heap H locs) (hT : TkAt E q0 tp n f z H) (hk : 2 ≤ k ∧ k < 8) (hlink : Cond.fieldLink RX3 index RX3 (TX3 k).2.1 (TX3 k).2.2.1 ∈ lw_all) (hfin : (TX3 k).2.2.2 = false) (hd : parseFieldDescriptor (TX3 k).2.2.1 = some .int) (hcl : (TX3 k).1 = RX3) (hz : ([.ref tp, .int (nI n), .int (nI z.1), .int (nI z.2.1), .int z.2.2.1, .int z.2.2.2.1, .int (nI z.2.2.2.2.1), .int z.2.2.2.2.2] : List Value).set k (.int v) = [.ref tp, .int (nI n), .int (nI z1.1), .int (nI z1.2.1), .int z1.2.2.1, .int z1.2.2.2.1, .int (nI z1.2.2.2.2.1), .int z1.2.2.2.2.2]) (hdg : decode cc pc = .ok (.putfield index, 3))
    (kk : ∀ (H1 : Heap) (locs1 : List Loc), TkAt E q0 tp n f z1 H1 → H1.size = H.size → (∀ q, q ≠ q0 → H1[q]? = H[q]?) → va_S (bW (b1 q0) s.heap.size) s.heap H1 locs1 → W p l e R s m args below meth c H1 locs1 cells slots Q (F0 m (pc + 3) ls rest)) : W p l e R s m args below meth c H locs cells slots Q (F0 m pc ls (.int v :: .ref q0 :: rest)) := by
  obtain ⟨hA, hB, hne⟩ := hT
  refine b_put (k := k) (D := RX3) (ty := .int) hC hS hA (Or.inl rfl) in_X3 tyX3 tyX3_ok nmX3 (ci := 3) rfl hk.2 hlink (fun _ h => by rw [← hcl]; exact h) hfin hd rfl rfl hk.2 hdg (fun H1 locs1 hA1 hz1 hk1 hS1 => ?_)
  rw [hz] at hA1
  exact kk H1 locs1 ⟨hA1, hB.kept (hk1 tp hne), hne⟩ hz1 hk1 hS1
/-- at++ -/
theorem t_inc (hC : bC E (b1 q0) mn RX3 cc nL rt p s m args meth c) (hS : va_S (bW (b1 q0) s.heap.size) s.heap H locs) (hT : TkAt E q0 tp n f z H) (hl : ls[0]? = some (.val (.ref q0))) (d0 : decode cc pc = .ok (.aload_n 0, 1)) (d1 : decode cc (pc + 1) = .ok (.dup, 1)) (d2 : decode cc (pc + 2) = .ok (.getfield 19, 3)) (d3 : decode cc (pc + 5) = .ok (.iconst 1, 1)) (d4 : decode cc (pc + 6) = .ok (.iadd, 1)) (d5 : decode cc (pc + 7) = .ok (.putfield 19, 3))
    (kk : ∀ (H1 : Heap) (locs1 : List Loc), TkAt E q0 tp n f (z.1 + 1, z.2) H1 → H1.size = H.size → (∀ q, q ≠ q0 → H1[q]? = H[q]?) → va_S (bW (b1 q0) s.heap.size) s.heap H1 locs1 → W p l e R s m args below meth c H1 locs1 cells slots Q (F0 m (pc + 10) ls rest)) : W p l e R s m args below meth c H locs cells slots Q (F0 m pc ls rest) := by
  have hx := hC.1.1.1
  have hb := hC.1.1.2.1
  refine lv_aload_n hx hb d0 rfl hl ?_
  refine lv_dup hx hb d1 rfl ?_
  refine e_get (k := 2) (D := RX3) hC.1 hT.1 in_X3 (ci := 3) rfl (by decide) q314 rfl rfl d2 ?_
  refine lv_iconst (v := 1) hx hb d3 (by decide) ?_
  refine lv_iadd hx hb d4 ?_
  rw [nI_1]
  exact t_put (k := 2) (z1 := (z.1 + 1, z.2)) hC hS hT ⟨by decide, by decide⟩ q314 rfl (by decide +kernel) rfl rfl d5 kk
end TK
def kWs (f : Nat → Int32) (n : Nat) : Nat → Nat → Nat
  | 0, a => a
  | j + 1, a => if a < n ∧ (f a = 32 ∨ f a = 10) then kWs f n j (a + 1) else a
def kLs (f : Nat → Int32) (n : Nat) : Nat → Nat → Nat
  | 0, a => a
  | j + 1, a => if a < n ∧ kLet (f a) = true then kLs f n j (a + 1) else a
def kDs (f : Nat → Int32) (n : Nat) : Nat → Nat → Int32 → Nat × Int32
  | 0, a, v => (a, v)
  | j + 1, a, v => if a < n ∧ kDig (f a) = true then kDs f n j (a + 1) (if 10 * v + f a - 48 < 99999 then 10 * v + f a - 48 else 99999) else (a, v)
def kSw (f : Nat → Int32) (t u : Nat) : Nat → Nat → Int32 → Int32
  | 0, _, s => s
  | j + 1, w, s => kSw f t u j (w + 1) (if kWord f t u (bWords.getD w []) = true then nI (200 + w) else s)
def kSg (c : Int32) : Nat → Nat → Int32 → Int32
  | 0, _, s => s
  | j + 1, k, s => kSg c j (k + 1) (if (bWords.getD 26 []).getD k 0 = c then c else s)
/-- the next token -/
def kNext (f : Nat → Int32) (n : Nat) (z : TS) : TS :=
  let a := kWs f n (n - z.1) z.1
  if a = n then (a, a, 301, z.2.2.2)
  else if kLet (f a) = true then (kLs f n (n - a) a, a, kSw f a (kLs f n (n - a) a) 26 0 302, z.2.2.2)
  else if kDig (f a) = true then ((kDs f n (n - a) a 0).1, a, 300, (kDs f n (n - a) a 0).2, z.2.2.2.2)
  else if (f a = 60 ∨ f a = 62) ∧ a + 1 < n ∧ f (a + 1) = 61 then (a + 1 + 1, a, if f a = 60 then 303 else 304, z.2.2.2)
  else (a + 1, a, kSg (f a) 11 0 302, z.2.2.2)
theorem kWs_le {f : Nat → Int32} {n : Nat} : ∀ (j a : Nat), a ≤ n → a ≤ kWs f n j a ∧ kWs f n j a ≤ n := by
  intro j
  induction j with
  | zero => intro a h; exact ⟨Nat.le_refl _, h⟩
  | succ j ih =>
    intro a h
    rw [kWs]
    split
    · rename_i h1
      have := ih (a + 1) h1.1
      exact ⟨by omega, this.2⟩
    · exact ⟨Nat.le_refl _, h⟩
theorem kLs_le {f : Nat → Int32} {n : Nat} : ∀ (j a : Nat), a ≤ n → a ≤ kLs f n j a ∧ kLs f n j a ≤ n := by
  intro j
  induction j with
  | zero => intro a h; exact ⟨Nat.le_refl _, h⟩
  | succ j ih =>
    intro a h
    rw [kLs]
    split
    · rename_i h1
      have := ih (a + 1) h1.1
      exact ⟨by omega, this.2⟩
    · exact ⟨Nat.le_refl _, h⟩
theorem kDs_le {f : Nat → Int32} {n : Nat} : ∀ (j a : Nat) (v : Int32), a ≤ n → a ≤ (kDs f n j a v).1 ∧ (kDs f n j a v).1 ≤ n := by
  intro j
  induction j with
  | zero => intro a v h; exact ⟨Nat.le_refl _, h⟩
  | succ j ih =>
    intro a v h
    rw [kDs]
    split
    · rename_i h1
      have := ih (a + 1) (if 10 * v + f a - 48 < 99999 then 10 * v + f a - 48 else 99999) h1.1
      exact ⟨by omega, this.2⟩
    · exact ⟨Nat.le_refl _, h⟩
abbrev rmNx : Room := { frames := 5, cells := 0, slots := 0, locals := 160 }
section NX
variable {p : Program} {l : Launch} {e : Env} {s : State} {m : MethodId} {args : Array Value} {below : List Frame} {meth : Method} {c : Code} {Q : State → Prop} {E : XE} {q0 tp n : Nat} {f : Nat → Int32}
/-- the machine in next: the tokens' state z -/
def nW (p : Program) (l : Launch) (e : Env) (s : State) (m : MethodId) (args : Array Value) (below : List Frame) (meth : Method) (c : Code) (E : XE) (q0 tp n : Nat) (f : Nat → Int32) (Q : State → Prop) (pc : Nat) (lv : List (Nat × Value)) (z : TS) : Prop := ∀ (H : Heap) (locs : List Loc) (ls : Array Slot), TkAt E q0 tp n f z H → va_S (bW (b1 q0) s.heap.size) s.heap H locs → lv_has ls 3 lv → W p l e rmNx s m args below meth c H locs 0 0 Q (F0 m pc ls [])
/-- blanks -/
theorem nx_ws (hC : bC E (b1 q0) "next" RX3 cX3_next 3 none p s m args meth c) (hn : n ≤ 300) : ∀ (j : Nat) (z : TS), z.1 ≤ n → n - z.1 = j → nW p l e s m args below meth c E q0 tp n f Q 52 [(0, .ref q0)] (kWs f n j z.1, z.2) → nW p l e s m args below meth c E q0 tp n f Q 0 [(0, .ref q0)] z := by
  have hx := hC.1.1.1
  have hb := hC.1.1.2.1
  intro j
  induction j with
  | zero =>
    intro z hz hj kk H locs ls hT hS hl
    refine lv_aload_n hx hb dX3_next_0 rfl (lv_at hl 0 rfl) ?_
    refine e_get (k := 2) (D := RX3) hC.1 hT.1 in_X3 (ci := 3) rfl (by decide) q314 rfl rfl dX3_next_1 ?_
    refine lv_aload_n hx hb dX3_next_4 rfl (lv_at hl 0 rfl) ?_
    refine e_get (k := 1) (D := RX3) hC.1 hT.1 in_X3 (ci := 3) rfl (by decide) q313 rfl rfl dX3_next_5 ?_
    refine lv_icmp_ge (tgt := 52) hx hb dX3_next_8 (by decide) (fun c_1 => kk H locs ls hT hS hl) (fun c_1 => absurd (nI_le (a := n) (b := z.1) (by omega) (by omega)) c_1)
  | succ j ih =>
    intro z hz hj kk H locs ls hT hS hl
    refine lv_aload_n hx hb dX3_next_0 rfl (lv_at hl 0 rfl) ?_
    refine e_get (k := 2) (D := RX3) hC.1 hT.1 in_X3 (ci := 3) rfl (by decide) q314 rfl rfl dX3_next_1 ?_
    refine lv_aload_n hx hb dX3_next_4 rfl (lv_at hl 0 rfl) ?_
    refine e_get (k := 1) (D := RX3) hC.1 hT.1 in_X3 (ci := 3) rfl (by decide) q313 rfl rfl dX3_next_5 ?_
    refine lv_icmp_ge (tgt := 52) hx hb dX3_next_8 (by decide) (fun c_1 => absurd c_1 (nI_ge (by omega) (by omega))) (fun c_1 => ?_)
    have go : (f z.1 = 32 ∨ f z.1 = 10) → W p l e rmNx s m args below meth c H locs 0 0 Q (F0 m 39 ls []) := by
      intro hc
      refine t_inc hC hS hT (lv_at hl 0 rfl) dX3_next_39 dX3_next_40 dX3_next_41 dX3_next_44 dX3_next_45 dX3_next_46 (fun H1 locs1 hT1 hz1 hk1 hS1 => ?_)
      refine lv_goto (tgt := 0) hx hb dX3_next_49 (by decide) ?_
      refine ih (z.1 + 1, z.2) (by show z.1 + 1 ≤ n; omega) (by show n - (z.1 + 1) = j; omega) ?_ H1 locs1 ls hT1 hS1 hl
      rw [kWs, if_pos ⟨by omega, hc⟩] at kk
      exact kk
    refine t_ch hC hT (lv_at hl 0 rfl) (by omega) dX3_next_11 dX3_next_12 dX3_next_15 dX3_next_16 dX3_next_19 ?_
    refine lv_bipush (v := 32) hx hb dX3_next_20 (by decide) ?_
    refine lv_icmp_eq (tgt := 39) hx hb dX3_next_22 (by decide) (fun c_2 => go (Or.inl c_2)) (fun c_2 => ?_)
    refine t_ch hC hT (lv_at hl 0 rfl) (by omega) dX3_next_25 dX3_next_26 dX3_next_29 dX3_next_30 dX3_next_33 ?_
    refine lv_bipush (v := 10) hx hb dX3_next_34 (by decide) ?_
    refine lv_icmp_ne (tgt := 52) hx hb dX3_next_36 (by decide) (fun c_3 => ?_) (fun c_3 => go (Or.inr c_3))
    rw [kWs, if_neg (fun h => by rcases h.2 with h | h; exact c_2 h; exact c_3 h)] at kk
    exact kk H locs ls hT hS hl
/-- letters -/
theorem nx_ls (hC : bC E (b1 q0) "next" RX3 cX3_next 3 none p s m args meth c) (hn : n ≤ 300) : ∀ (j : Nat) (z : TS), z.1 ≤ n → n - z.1 = j → nW p l e s m args below meth c E q0 tp n f Q 135 [(0, .ref q0)] (kLs f n j z.1, z.2) → nW p l e s m args below meth c E q0 tp n f Q 96 [(0, .ref q0)] z := by
  have hx := hC.1.1.1
  have hb := hC.1.1.2.1
  have hts := hC.1.1.2.2.2.2.2.2
  intro j
  induction j with
  | zero =>
    intro z hz hj kk H locs ls hT hS hl
    refine lv_aload_n hx hb dX3_next_96 rfl (lv_at hl 0 rfl) ?_
    refine e_get (k := 2) (D := RX3) hC.1 hT.1 in_X3 (ci := 3) rfl (by decide) q314 rfl rfl dX3_next_97 ?_
    refine lv_aload_n hx hb dX3_next_100 rfl (lv_at hl 0 rfl) ?_
    refine e_get (k := 1) (D := RX3) hC.1 hT.1 in_X3 (ci := 3) rfl (by decide) q313 rfl rfl dX3_next_101 ?_
    refine lv_icmp_ge (tgt := 135) hx hb dX3_next_104 (by decide) (fun c_1 => kk H locs ls hT hS hl) (fun c_1 => absurd (nI_le (a := n) (b := z.1) (by omega) (by omega)) c_1)
  | succ j ih =>
    intro z hz hj kk H locs ls hT hS hl
    refine lv_aload_n hx hb dX3_next_96 rfl (lv_at hl 0 rfl) ?_
    refine e_get (k := 2) (D := RX3) hC.1 hT.1 in_X3 (ci := 3) rfl (by decide) q314 rfl rfl dX3_next_97 ?_
    refine lv_aload_n hx hb dX3_next_100 rfl (lv_at hl 0 rfl) ?_
    refine e_get (k := 1) (D := RX3) hC.1 hT.1 in_X3 (ci := 3) rfl (by decide) q313 rfl rfl dX3_next_101 ?_
    refine lv_icmp_ge (tgt := 135) hx hb dX3_next_104 (by decide) (fun c_1 => absurd c_1 (nI_ge (by omega) (by omega))) (fun c_1 => ?_)
    refine t_ch hC hT (lv_at hl 0 rfl) (by omega) dX3_next_107 dX3_next_108 dX3_next_111 dX3_next_112 dX3_next_115 ?_
    refine s_calli [.int (f z.1)] hC.1.1 hl.1 wX3_isLetter (va_cwS 1 hts (lw_S q393 q394 q126 q395) rfl rfl rfl (by decide +kernel) ⟨Nat.le_of_ble_eq_true rfl, Nat.le_of_ble_eq_true rfl⟩) rfl rfl (lv_room (Nat.le_of_ble_eq_true rfl)) ⟨Nat.zero_le _, Nat.zero_le _⟩ dX3_next_116 ?_
    by_cases hL : kLet (f z.1) = true
    · rw [hL]
      refine lv_if_eq (tgt := 135) hx hb dX3_next_119 (by decide) (fun c_2 => absurd c_2 (by decide)) (fun c_2 => ?_)
      refine t_inc hC hS hT (lv_at hl 0 rfl) dX3_next_122 dX3_next_123 dX3_next_124 dX3_next_127 dX3_next_128 dX3_next_129 (fun H1 locs1 hT1 hz1 hk1 hS1 => ?_)
      refine lv_goto (tgt := 96) hx hb dX3_next_132 (by decide) ?_
      refine ih (z.1 + 1, z.2) (by show z.1 + 1 ≤ n; omega) (by show n - (z.1 + 1) = j; omega) ?_ H1 locs1 ls hT1 hS1 hl
      rw [kLs, if_pos ⟨by omega, hL⟩] at kk
      exact kk
    · have hL' : kLet (f z.1) = false := by
        cases h9 : kLet (f z.1) with
        | true => exact absurd h9 hL
        | false => rfl
      rw [hL']
      refine lv_if_eq (tgt := 135) hx hb dX3_next_119 (by decide) (fun c_2 => ?_) (fun c_2 => absurd rfl c_2)
      rw [kLs, if_neg (fun h => hL h.2)] at kk
      exact kk H locs ls hT hS hl
/-- digits -/
theorem nx_ds (hC : bC E (b1 q0) "next" RX3 cX3_next 3 none p s m args meth c) (hn : n ≤ 300) : ∀ (j : Nat) (z : TS), z.1 ≤ n → n - z.1 = j → nW p l e s m args below meth c E q0 tp n f Q 402 [(0, .ref q0)] ((kDs f n j z.1 z.2.2.2.1).1, z.2.1, z.2.2.1, (kDs f n j z.1 z.2.2.2.1).2, z.2.2.2.2) → nW p l e s m args below meth c E q0 tp n f Q 209 [(0, .ref q0)] z := by
  have hx := hC.1.1.1
  have hb := hC.1.1.2.1
  have hown := hC.1.1.2.2.2.2.2.1
  have hts := hC.1.1.2.2.2.2.2.2
  have hml := hC.1.1.2.2.2.2.1
  intro j
  induction j with
  | zero =>
    intro z hz hj kk H locs ls hT hS hl
    refine lv_aload_n hx hb dX3_next_209 rfl (lv_at hl 0 rfl) ?_
    refine e_get (k := 2) (D := RX3) hC.1 hT.1 in_X3 (ci := 3) rfl (by decide) q314 rfl rfl dX3_next_210 ?_
    refine lv_aload_n hx hb dX3_next_213 rfl (lv_at hl 0 rfl) ?_
    refine e_get (k := 1) (D := RX3) hC.1 hT.1 in_X3 (ci := 3) rfl (by decide) q313 rfl rfl dX3_next_214 ?_
    refine lv_icmp_ge (tgt := 402) hx hb dX3_next_217 (by decide) (fun c_1 => kk H locs ls hT hS hl) (fun c_1 => absurd (nI_le (a := n) (b := z.1) (by omega) (by omega)) c_1)
  | succ j ih =>
    intro z hz hj kk H locs ls hT hS hl
    refine lv_aload_n hx hb dX3_next_209 rfl (lv_at hl 0 rfl) ?_
    refine e_get (k := 2) (D := RX3) hC.1 hT.1 in_X3 (ci := 3) rfl (by decide) q314 rfl rfl dX3_next_210 ?_
    refine lv_aload_n hx hb dX3_next_213 rfl (lv_at hl 0 rfl) ?_
    refine e_get (k := 1) (D := RX3) hC.1 hT.1 in_X3 (ci := 3) rfl (by decide) q313 rfl rfl dX3_next_214 ?_
    refine lv_icmp_ge (tgt := 402) hx hb dX3_next_217 (by decide) (fun c_1 => absurd c_1 (nI_ge (by omega) (by omega))) (fun c_1 => ?_)
    refine t_ch hC hT (lv_at hl 0 rfl) (by omega) dX3_next_220 dX3_next_221 dX3_next_224 dX3_next_225 dX3_next_228 ?_
    refine s_calli [.int (f z.1)] hC.1.1 hl.1 wX3_isDigit (va_cwS 1 hts (lw_S q450 q451 q126 q452) rfl rfl rfl (by decide +kernel) ⟨Nat.le_of_ble_eq_true rfl, Nat.le_of_ble_eq_true rfl⟩) rfl rfl (lv_room (Nat.le_of_ble_eq_true rfl)) ⟨Nat.zero_le _, Nat.zero_le _⟩ dX3_next_229 ?_
    by_cases hL : kDig (f z.1) = true
    · rw [hL]
      refine lv_if_eq (tgt := 402) hx hb dX3_next_232 (by decide) (fun c_2 => absurd c_2 (by decide)) (fun c_2 => ?_)
      refine lv_aload_n hx hb dX3_next_235 rfl (lv_at hl 0 rfl) ?_
      refine lv_ldc (v := 99999) hx hb hown (hts _ q453) dX3_next_236 ?_
      refine lv_bipush (v := 10) hx hb dX3_next_238 (by decide) ?_
      refine lv_aload_n hx hb dX3_next_240 rfl (lv_at hl 0 rfl) ?_
      refine e_get (k := 5) (D := RX3) hC.1 hT.1 in_X3 (ci := 3) rfl (by decide) q317 rfl rfl dX3_next_241 ?_
      refine lv_imul hx hb dX3_next_244 ?_
      refine t_ch hC hT (lv_at hl 0 rfl) (by omega) dX3_next_245 dX3_next_246 dX3_next_249 dX3_next_250 dX3_next_253 ?_
      refine lv_iadd hx hb dX3_next_254 ?_
      refine lv_bipush (v := 48) hx hb dX3_next_255 (by decide) ?_
      refine lv_isub hx hb dX3_next_257 ?_
      refine va_mmin hx hb (hml.trans hl.1.symm) hown (hts _ q454) (hts _ q455) (hts _ q135) (hts _ q456) (Nat.le_of_ble_eq_true rfl) (Nat.le_of_ble_eq_true rfl) (Nat.zero_le _) (Nat.zero_le _) dX3_next_258 ?_
      refine t_put (k := 5) (z1 := (z.1, z.2.1, z.2.2.1, (if 10 * z.2.2.2.1 + f z.1 - 48 < 99999 then 10 * z.2.2.2.1 + f z.1 - 48 else 99999), z.2.2.2.2)) hC hS hT ⟨by decide, by decide⟩ q317 rfl (by decide +kernel) rfl rfl dX3_next_261 (fun H0 locs0 hT0 hz0 hk0 hS0 => ?_)
      refine t_inc hC hS0 hT0 (lv_at hl 0 rfl) dX3_next_264 dX3_next_265 dX3_next_266 dX3_next_269 dX3_next_270 dX3_next_271 (fun H1 locs1 hT1 hz1 hk1 hS1 => ?_)
      refine lv_goto (tgt := 209) hx hb dX3_next_274 (by decide) ?_
      refine ih _ (by show z.1 + 1 ≤ n; omega) (by show n - (z.1 + 1) = j; omega) ?_ H1 locs1 ls hT1 hS1 hl
      rw [kDs, if_pos ⟨by omega, hL⟩] at kk
      exact kk
    · have hL' : kDig (f z.1) = false := by
        cases h9 : kDig (f z.1) with
        | true => exact absurd h9 hL
        | false => rfl
      rw [hL']
      refine lv_if_eq (tgt := 402) hx hb dX3_next_232 (by decide) (fun c_2 => ?_) (fun c_2 => absurd rfl c_2)
      rw [kDs, if_neg (fun h => hL h.2)] at kk
      exact kk H locs ls hT hS hl
/-- which word -/
theorem nx_sw (hC : bC E (b1 q0) "next" RX3 cX3_next 3 none p s m args meth c) : ∀ (j k : Nat) (z : TS), j + k = 26 → z.2.1 ≤ z.1 → z.1 ≤ 300 → nW p l e s m args below meth c E q0 tp n f Q 402 [(0, .ref q0)] (z.1, z.2.1, kSw f z.2.1 z.1 j k z.2.2.1, z.2.2.2) → nW p l e s m args below meth c E q0 tp n f Q 144 [(1, .int (nI k)), (0, .ref q0)] z := by
  have hx := hC.1.1.1
  have hb := hC.1.1.2.1
  have hts := hC.1.1.2.2.2.2.2.2
  obtain ⟨aW, aN, aC, ad, -, ⟨w1, w2⟩, -⟩ := hC.2.1.2.2
  intro j
  induction j with
  | zero =>
    intro k z hk hz1 hz2 kk H locs ls hT hS hl
    refine lv_iload_n hx hb dX3_next_144 rfl (lv_at hl 0 rfl) ?_
    refine b_gets hC hS w1 q396 dX3_next_145 ?_
    refine va_tlen hx hb w2 (b_Sz hC hS) (v := nI 26) rfl dX3_next_148 ?_
    refine lv_icmp_ge (tgt := 179) hx hb dX3_next_149 (by decide) (fun c_1 => ?_) (fun c_1 => absurd (nI_le (a := 26) (b := k) (by omega) (by omega)) c_1)
    refine lv_goto (tgt := 402) hx hb dX3_next_179 (by decide) ?_
    exact kk H locs ls hT hS (lv_sub hl [1] rfl)
  | succ j ih =>
    intro k z hk hz1 hz2 kk H locs ls hT hS hl
    refine lv_iload_n hx hb dX3_next_144 rfl (lv_at hl 0 rfl) ?_
    refine b_gets hC hS w1 q396 dX3_next_145 ?_
    refine va_tlen hx hb w2 (b_Sz hC hS) (v := nI 26) rfl dX3_next_148 ?_
    refine lv_icmp_ge (tgt := 179) hx hb dX3_next_149 (by decide) (fun c_1 => absurd c_1 (nI_ge (by omega) (by omega))) (fun c_1 => ?_)
    refine lv_aload_n hx hb dX3_next_152 rfl (lv_at hl 1 rfl) ?_
    refine b_gets hC hS w1 q396 dX3_next_153 ?_
    refine lv_iload_n hx hb dX3_next_156 rfl (lv_at hl 0 rfl) ?_
    refine vb_tq hx hb w2 (b_Sz hC hS) (nI_in (by omega) (by omega)) (v := .ref (bKs E k)) (by rw [nI_clamp (by omega)]) dX3_next_157 ?_
    refine b_callV [.ref (bKs E k)] q0 hC hS hl.1 (wX3_isWord (i := k) (n := n) (f := f) (z := z) (tp := tp) (by omega) hz1 hz2) (fun _ h => h.elim) hT (e_recv hC.1 hT.1 (hC.1.2.2.1 3 _ rfl)) (cwV 1 hts (lw_V q398 q400 qs2 q126 q401) rfl rfl rfl (by decide +kernel) ⟨Nat.le_of_ble_eq_true rfl, Nat.le_of_ble_eq_true rfl⟩) rfl rfl (lv_room (Nat.le_of_ble_eq_true rfl)) ⟨Nat.zero_le _, Nat.zero_le _⟩ (fun _ h => h.elim) dX3_next_158 (fun o H1 locs1 hPo hz9 hk1 hS1 => ?_)
    subst hPo
    have hT1 : TkAt E q0 tp n f z H1 := ⟨hT.1.kept (hk1 q0 hT.1.lt (fun h => h)), hT.2.1.kept (hk1 tp hT.2.1.lt (fun h => h)), hT.2.2⟩
    by_cases hL : kWord f z.2.1 z.1 (bWords.getD k []) = true
    · rw [hL]
      refine lv_if_eq (tgt := 173) hx hb dX3_next_161 (by decide) (fun c_2 => absurd c_2 (by decide)) (fun c_2 => ?_)
      refine lv_aload_n hx hb dX3_next_164 rfl (lv_at hl 1 rfl) ?_
      refine lv_sipush (v := 200) hx hb dX3_next_165 (by decide) ?_
      refine lv_iload_n hx hb dX3_next_168 rfl (lv_at hl 0 rfl) ?_
      refine lv_iadd hx hb dX3_next_169 ?_
      have e2 : (200 : Int32) + nI k = nI (200 + k) := nI_add 200 k
      rw [e2]
      refine t_put (k := 4) (z1 := (z.1, z.2.1, nI (200 + k), z.2.2.2)) hC hS1 hT1 ⟨by decide, by decide⟩ q316 rfl (by decide +kernel) rfl rfl dX3_next_170 (fun H2 locs2 hT2 hz2' hk2 hS2 => ?_)
      refine lv_iinc (v := nI (k + 1)) (lv' := [(1, .int (nI (k + 1))), (0, .ref q0)]) hx hb dX3_next_173 hl (k := 0) rfl (by rw [nI_succ]; rfl) (Nat.le_of_ble_eq_true rfl) rfl (fun ls hl => ?_)
      refine lv_goto (tgt := 144) hx hb dX3_next_176 (by decide) ?_
      refine ih (k + 1) (z.1, z.2.1, nI (200 + k), z.2.2.2) (by omega) hz1 hz2 ?_ H2 locs2 ls hT2 hS2 hl
      rw [kSw, if_pos hL] at kk
      exact kk
    · have hL' : kWord f z.2.1 z.1 (bWords.getD k []) = false := by
        cases h9 : kWord f z.2.1 z.1 (bWords.getD k []) with
        | true => exact absurd h9 hL
        | false => rfl
      rw [hL']
      refine lv_if_eq (tgt := 173) hx hb dX3_next_161 (by decide) (fun c_2 => ?_) (fun c_2 => absurd rfl c_2)
      refine lv_iinc (v := nI (k + 1)) (lv' := [(1, .int (nI (k + 1))), (0, .ref q0)]) hx hb dX3_next_173 hl (k := 0) rfl (by rw [nI_succ]; rfl) (Nat.le_of_ble_eq_true rfl) rfl (fun ls hl => ?_)
      refine lv_goto (tgt := 144) hx hb dX3_next_176 (by decide) ?_
      refine ih (k + 1) z (by omega) hz1 hz2 ?_ H1 locs1 ls hT1 hS1 hl
      rw [kSw, if_neg hL] at kk
      exact kk
/-- which sign -/
theorem nx_sg (hC : bC E (b1 q0) "next" RX3 cX3_next 3 none p s m args meth c) {ch : Int32} : ∀ (j k : Nat) (z : TS), j + k = 11 → nW p l e s m args below meth c E q0 tp n f Q 336 [(1, .int ch), (0, .ref q0)] (z.1, z.2.1, kSg ch j k z.2.2.1, z.2.2.2) → nW p l e s m args below meth c E q0 tp n f Q 306 [(2, .int (nI k)), (1, .int ch), (0, .ref q0)] z := by
  have hx := hC.1.1.1
  have hb := hC.1.1.2.1
  have hown := hC.1.1.2.2.2.2.2.1
  have hts := hC.1.1.2.2.2.2.2.2
  obtain ⟨aW, aN, aC, ad, -, -, -, ⟨s1, s2⟩, -⟩ := hC.2.1.2.2
  have hlen : (bWords.getD 26 []).length = 11 := by decide +kernel
  intro j
  induction j with
  | zero =>
    intro k z hk kk H locs ls hT hS hl
    refine lv_iload_n hx hb dX3_next_306 rfl (lv_at hl 0 rfl) ?_
    refine va_ldcS hx hb hown s2 dX3_next_307 ?_
    refine b_callV [] (bKs E 26) hC hS hl.1 (wJ4_length (i := 26) (by decide)) (fun _ h => h.elim) trivial (bS_recv hC hS (by decide)) (cwV 0 hts (lw_V q402 q403 q404 q131 q405) rfl rfl rfl (by decide +kernel) ⟨Nat.le_of_ble_eq_true rfl, Nat.le_of_ble_eq_true rfl⟩) rfl rfl (lv_room (Nat.le_of_ble_eq_true rfl)) ⟨Nat.le_refl _, Nat.le_refl _⟩ (fun _ h => h.elim) dX3_next_309 (fun o H2 locs2 hPo hz2 hk2 hS2 => ?_)
    subst hPo
    rw [hlen]
    refine lv_icmp_ge (tgt := 336) hx hb dX3_next_312 (by decide) (fun c_1 => ?_) (fun c_1 => absurd (nI_le (a := 11) (b := k) (by omega) (by omega)) c_1)
    exact kk H2 locs2 ls ⟨hT.1.kept (hk2 q0 hT.1.lt (fun h => h)), hT.2.1.kept (hk2 tp hT.2.1.lt (fun h => h)), hT.2.2⟩ hS2 (lv_sub hl [1, 2] rfl)
  | succ j ih =>
    intro k z hk kk H locs ls hT hS hl
    refine lv_iload_n hx hb dX3_next_306 rfl (lv_at hl 0 rfl) ?_
    refine va_ldcS hx hb hown s2 dX3_next_307 ?_
    refine b_callV [] (bKs E 26) hC hS hl.1 (wJ4_length (i := 26) (by decide)) (fun _ h => h.elim) trivial (bS_recv hC hS (by decide)) (cwV 0 hts (lw_V q402 q403 q404 q131 q405) rfl rfl rfl (by decide +kernel) ⟨Nat.le_of_ble_eq_true rfl, Nat.le_of_ble_eq_true rfl⟩) rfl rfl (lv_room (Nat.le_of_ble_eq_true rfl)) ⟨Nat.le_refl _, Nat.le_refl _⟩ (fun _ h => h.elim) dX3_next_309 (fun o H2 locs2 hPo hz2 hk2 hS2 => ?_)
    subst hPo
    rw [hlen]
    have hT2 : TkAt E q0 tp n f z H2 := ⟨hT.1.kept (hk2 q0 hT.1.lt (fun h => h)), hT.2.1.kept (hk2 tp hT.2.1.lt (fun h => h)), hT.2.2⟩
    refine lv_icmp_ge (tgt := 336) hx hb dX3_next_312 (by decide) (fun c_1 => absurd c_1 (nI_ge (by omega) (by omega))) (fun c_1 => ?_)
    refine va_ldcS hx hb hown s2 dX3_next_315 ?_
    refine lv_iload_n hx hb dX3_next_317 rfl (lv_at hl 0 rfl) ?_
    refine b_callV [.int (nI k)] (bKs E 26) hC hS2 hl.1 (wJ4_charAt (i := 26) (by decide) (k := k) (by rw [hlen]; omega)) (fun _ h => h.elim) trivial (bS_recv hC hS2 (by decide)) (cwV 1 hts (lw_V q412 q413 q414 q131 q415) rfl rfl rfl (by decide +kernel) ⟨Nat.le_of_ble_eq_true rfl, Nat.le_of_ble_eq_true rfl⟩) rfl rfl (lv_room (Nat.le_of_ble_eq_true rfl)) ⟨Nat.le_refl _, Nat.le_refl _⟩ (fun _ h => h.elim) dX3_next_318 (fun o H3 locs3 hPo hz3 hk3 hS3 => ?_)
    subst hPo
    have hT3 : TkAt E q0 tp n f z H3 := ⟨hT2.1.kept (hk3 q0 hT2.1.lt (fun h => h)), hT2.2.1.kept (hk3 tp hT2.2.1.lt (fun h => h)), hT2.2.2⟩
    refine lv_iload_n hx hb dX3_next_321 rfl (lv_at hl 1 rfl) ?_
    refine lv_icmp_ne (tgt := 330) hx hb dX3_next_322 (by decide) (fun c_2 => ?_) (fun c_2 => ?_)
    · refine lv_iinc (v := nI (k + 1)) (lv' := [(2, .int (nI (k + 1))), (1, .int ch), (0, .ref q0)]) hx hb dX3_next_330 hl (k := 0) rfl (by rw [nI_succ]; rfl) (Nat.le_of_ble_eq_true rfl) rfl (fun ls hl => ?_)
      refine lv_goto (tgt := 306) hx hb dX3_next_333 (by decide) ?_
      refine ih (k + 1) z (by omega) ?_ H3 locs3 ls hT3 hS3 hl
      rw [kSg, if_neg c_2] at kk
      exact kk
    · refine lv_aload_n hx hb dX3_next_325 rfl (lv_at hl 2 rfl) ?_
      refine lv_iload_n hx hb dX3_next_326 rfl (lv_at hl 1 rfl) ?_
      refine t_put (k := 4) (z1 := (z.1, z.2.1, ch, z.2.2.2)) hC hS3 hT3 ⟨by decide, by decide⟩ q316 rfl (by decide +kernel) rfl rfl dX3_next_327 (fun H4 locs4 hT4 hz4 hk4 hS4 => ?_)
      refine lv_iinc (v := nI (k + 1)) (lv' := [(2, .int (nI (k + 1))), (1, .int ch), (0, .ref q0)]) hx hb dX3_next_330 hl (k := 0) rfl (by rw [nI_succ]; rfl) (Nat.le_of_ble_eq_true rfl) rfl (fun ls hl => ?_)
      refine lv_goto (tgt := 306) hx hb dX3_next_333 (by decide) ?_
      refine ih (k + 1) (z.1, z.2.1, ch, z.2.2.2) (by omega) ?_ H4 locs4 ls hT4 hS4 hl
      rw [kSg, if_pos c_2] at kk
      exact kk
end NX
theorem wX3_next {l : Launch} {E : XE} {q0 tp n : Nat} {f : Nat → Int32} {z : TS} (hn : n ≤ 300) (hz : z.1 ≤ n) : bM l E (b1 q0) yX3_next (ws_ yX3_next cX3_next 3 none) rmNx [.ref q0] (TkAt E q0 tp n f z) (fun _ o H => o = none ∧ TkAt E q0 tp n f (kNext f n z) H) := by
  refine b_met (own := RX3) (mn := "next") (by decide) rfl rfl (Nat.le_of_ble_eq_true rfl) (fun p e s m args below meth c hC hA ls hl hS => ?_)
  have hx := hC.1.1.1
  have hb := hC.1.1.2.1
  have hts := hC.1.1.2.2.2.2.2.2
  have hl : lv_has ls 3 [(0, .ref q0)] := hl
  have fin : nW p l e s m args below meth c E q0 tp n f (bQ (b1 q0) rmNx below args s (fun o H => o = none ∧ TkAt E q0 tp n f (kNext f n z) H)) 402 [(0, .ref q0)] (kNext f n z) := by
    intro H locs ls hT hS hl
    exact b_vret hC hS ⟨Nat.le_refl _, Nat.le_refl _⟩ ⟨rfl, hT⟩ dX3_next_402
  generalize hQ : (bQ (b1 q0) rmNx below args s (fun o H => o = none ∧ TkAt E q0 tp n f (kNext f n z) H)) = Q at fin ⊢
  refine nx_ws hC hn (n - z.1) z hz rfl ?_ s.heap [] ls hA hS hl
  have ha := (kWs_le (f := f) (n := n) (n - z.1) z.1 hz).2
  unfold kNext at fin
  generalize ea : kWs f n (n - z.1) z.1 = a at fin ha ⊢
  intro H locs ls hT hS hl
  refine lv_aload_n hx hb dX3_next_52 rfl (lv_at hl 0 rfl) ?_
  refine lv_aload_n hx hb dX3_next_53 rfl (lv_at hl 0 rfl) ?_
  refine e_get (k := 2) (D := RX3) hC.1 hT.1 in_X3 (ci := 3) rfl (by decide) q314 rfl rfl dX3_next_54 ?_
  refine t_put (k := 3) (z1 := (a, a, z.2.2)) hC hS hT ⟨by decide, by decide⟩ q315 rfl (by decide +kernel) rfl rfl dX3_next_57 (fun H locs hT hz2 hk2 hS => ?_)
  refine lv_aload_n hx hb dX3_next_60 rfl (lv_at hl 0 rfl) ?_
  refine e_get (k := 2) (D := RX3) hC.1 hT.1 in_X3 (ci := 3) rfl (by decide) q314 rfl rfl dX3_next_61 ?_
  refine lv_aload_n hx hb dX3_next_64 rfl (lv_at hl 0 rfl) ?_
  refine e_get (k := 1) (D := RX3) hC.1 hT.1 in_X3 (ci := 3) rfl (by decide) q313 rfl rfl dX3_next_65 ?_
  by_cases han : a = n
  · simp only [if_pos han] at fin
    refine lv_icmp_ne (tgt := 81) hx hb dX3_next_68 (by decide) (fun c_1 => absurd (by rw [han]) c_1) (fun c_1 => ?_)
    refine lv_aload_n hx hb dX3_next_71 rfl (lv_at hl 0 rfl) ?_
    refine lv_sipush (v := 301) hx hb dX3_next_72 (by decide) ?_
    refine t_put (k := 4) (z1 := (a, a, 301, z.2.2.2)) hC hS hT ⟨by decide, by decide⟩ q316 rfl (by decide +kernel) rfl rfl dX3_next_75 (fun H locs hT hz2 hk2 hS => ?_)
    refine lv_goto (tgt := 402) hx hb dX3_next_78 (by decide) ?_
    exact fin H locs ls hT hS hl
  simp only [if_neg han] at fin
  refine lv_icmp_ne (tgt := 81) hx hb dX3_next_68 (by decide) (fun c_1 => ?_) (fun c_1 => absurd ((nI_eq (by omega) (by omega)).mp c_1) han)
  refine t_ch (z := (a, a, z.2.2)) hC hT (lv_at hl 0 rfl) (by show a < 300; omega) dX3_next_81 dX3_next_82 dX3_next_85 dX3_next_86 dX3_next_89 ?_
  refine s_calli [.int (f a)] hC.1.1 hl.1 wX3_isLetter (va_cwS 1 hts (lw_S q393 q394 q126 q395) rfl rfl rfl (by decide +kernel) ⟨Nat.le_of_ble_eq_true rfl, Nat.le_of_ble_eq_true rfl⟩) rfl rfl (lv_room (Nat.le_of_ble_eq_true rfl)) ⟨Nat.zero_le _, Nat.zero_le _⟩ dX3_next_90 ?_
  by_cases hL : kLet (f a) = true
  · simp only [if_pos hL] at fin
    rw [hL]
    refine lv_if_eq (tgt := 182) hx hb dX3_next_93 (by decide) (fun c_2 => absurd c_2 (by decide)) (fun c_2 => ?_)
    refine nx_ls hC hn (n - a) (a, a, z.2.2) ha rfl ?_ H locs ls hT hS hl
    have hu := kLs_le (f := f) (n := n) (n - a) a ha
    show nW p l e s m args below meth c E q0 tp n f Q 135 [(0, .ref q0)] (kLs f n (n - a) a, a, z.2.2)
    generalize kLs f n (n - a) a = u at hu fin ⊢
    intro H locs ls hT hS hl
    refine lv_aload_n hx hb dX3_next_135 rfl (lv_at hl 0 rfl) ?_
    refine lv_sipush (v := 302) hx hb dX3_next_136 (by decide) ?_
    refine t_put (k := 4) (z1 := (u, a, 302, z.2.2.2)) hC hS hT ⟨by decide, by decide⟩ q316 rfl (by decide +kernel) rfl rfl dX3_next_139 (fun H locs hT hz2 hk2 hS => ?_)
    refine lv_iconst (v := 0) hx hb dX3_next_142 (by decide) ?_
    refine lv_istore_n (lv' := [(1, .int (nI 0)), (0, .ref q0)]) hx hb dX3_next_143 rfl hl (Nat.le_of_ble_eq_true rfl) rfl (fun ls hl => ?_)
    exact nx_sw hC 26 0 (u, a, 302, z.2.2.2) rfl hu.1 (by show u ≤ 300; omega) fin H locs ls hT hS hl
  have hL' : kLet (f a) = false := by
    cases h9 : kLet (f a) with
    | true => exact absurd h9 hL
    | false => rfl
  simp only [if_neg hL] at fin
  rw [hL']
  refine lv_if_eq (tgt := 182) hx hb dX3_next_93 (by decide) (fun c_2 => ?_) (fun c_2 => absurd rfl c_2)
  refine t_ch (z := (a, a, z.2.2)) hC hT (lv_at hl 0 rfl) (by show a < 300; omega) dX3_next_182 dX3_next_183 dX3_next_186 dX3_next_187 dX3_next_190 ?_
  refine s_calli [.int (f a)] hC.1.1 hl.1 wX3_isDigit (va_cwS 1 hts (lw_S q450 q451 q126 q452) rfl rfl rfl (by decide +kernel) ⟨Nat.le_of_ble_eq_true rfl, Nat.le_of_ble_eq_true rfl⟩) rfl rfl (lv_room (Nat.le_of_ble_eq_true rfl)) ⟨Nat.zero_le _, Nat.zero_le _⟩ dX3_next_191 ?_
  by_cases hD : kDig (f a) = true
  · simp only [if_pos hD] at fin
    rw [hD]
    refine lv_if_eq (tgt := 277) hx hb dX3_next_194 (by decide) (fun c_3 => absurd c_3 (by decide)) (fun c_3 => ?_)
    refine lv_aload_n hx hb dX3_next_197 rfl (lv_at hl 0 rfl) ?_
    refine lv_sipush (v := 300) hx hb dX3_next_198 (by decide) ?_
    refine t_put (k := 4) (z1 := (a, a, 300, z.2.2.2)) hC hS hT ⟨by decide, by decide⟩ q316 rfl (by decide +kernel) rfl rfl dX3_next_201 (fun H locs hT hz2 hk2 hS => ?_)
    refine lv_aload_n hx hb dX3_next_204 rfl (lv_at hl 0 rfl) ?_
    refine lv_iconst (v := 0) hx hb dX3_next_205 (by decide) ?_
    refine t_put (k := 5) (z1 := (a, a, 300, 0, z.2.2.2.2)) hC hS hT ⟨by decide, by decide⟩ q317 rfl (by decide +kernel) rfl rfl dX3_next_206 (fun H locs hT hz2 hk2 hS => ?_)
    exact nx_ds hC hn (n - a) (a, a, 300, 0, z.2.2.2.2) ha rfl fin H locs ls hT hS hl
  have hD' : kDig (f a) = false := by
    cases h9 : kDig (f a) with
    | true => exact absurd h9 hD
    | false => rfl
  simp only [if_neg hD] at fin
  rw [hD']
  refine lv_if_eq (tgt := 277) hx hb dX3_next_194 (by decide) (fun c_3 => ?_) (fun c_3 => absurd rfl c_3)
  refine t_ch (z := (a, a, z.2.2)) hC hT (lv_at hl 0 rfl) (by show a < 300; omega) dX3_next_277 dX3_next_278 dX3_next_281 dX3_next_282 dX3_next_285 ?_
  refine lv_istore_n (lv' := [(1, .int (f a)), (0, .ref q0)]) hx hb dX3_next_286 rfl hl (Nat.le_of_ble_eq_true rfl) rfl (fun ls hl => ?_)
  refine t_inc hC hS hT (lv_at hl 1 rfl) dX3_next_287 dX3_next_288 dX3_next_289 dX3_next_292 dX3_next_293 dX3_next_294 (fun H locs hT hz2 hk2 hS => ?_)
  refine lv_aload_n hx hb dX3_next_297 rfl (lv_at hl 1 rfl) ?_
  refine lv_sipush (v := 302) hx hb dX3_next_298 (by decide) ?_
  refine t_put (k := 4) (z1 := (a + 1, a, 302, z.2.2.2)) hC hS hT ⟨by decide, by decide⟩ q316 rfl (by decide +kernel) rfl rfl dX3_next_301 (fun H locs hT hz2 hk2 hS => ?_)
  refine lv_iconst (v := 0) hx hb dX3_next_304 (by decide) ?_
  refine lv_istore_n (lv' := [(2, .int (nI 0)), (1, .int (f a)), (0, .ref q0)]) hx hb dX3_next_305 rfl hl (Nat.le_of_ble_eq_true rfl) rfl (fun ls hl => ?_)
  refine nx_sg hC 11 0 (a + 1, a, 302, z.2.2.2) rfl ?_ H locs ls hT hS hl
  show nW p l e s m args below meth c E q0 tp n f Q 336 [(1, .int (f a)), (0, .ref q0)] (a + 1, a, kSg (f a) 11 0 302, z.2.2.2)
  intro H locs ls hT hS hl
  have neg : ¬ ((f a = 60 ∨ f a = 62) ∧ a + 1 < n ∧ f (a + 1) = 61) → W p l e rmNx s m args below meth c H locs 0 0 Q (F0 m 402 ls []) := by
    intro h
    simp only [if_neg h] at fin
    exact fin H locs ls hT hS (lv_sub hl [1] rfl)
  have at348 : (f a = 60 ∨ f a = 62) → W p l e rmNx s m args below meth c H locs 0 0 Q (F0 m 348 ls []) := by
    intro hc
    refine lv_aload_n hx hb dX3_next_348 rfl (lv_at hl 1 rfl) ?_
    refine e_get (k := 2) (D := RX3) hC.1 hT.1 in_X3 (ci := 3) rfl (by decide) q314 rfl rfl dX3_next_349 ?_
    refine lv_aload_n hx hb dX3_next_352 rfl (lv_at hl 1 rfl) ?_
    refine e_get (k := 1) (D := RX3) hC.1 hT.1 in_X3 (ci := 3) rfl (by decide) q313 rfl rfl dX3_next_353 ?_
    by_cases h1 : a + 1 < n
    · refine lv_icmp_ge (tgt := 402) hx hb dX3_next_356 (by decide) (fun c_1 => absurd c_1 (nI_ge h1 (by omega))) (fun c_1 => ?_)
      refine t_ch (z := (a + 1, a, kSg (f a) 11 0 302, z.2.2.2)) hC hT (lv_at hl 1 rfl) (by show a + 1 < 300; omega) dX3_next_359 dX3_next_360 dX3_next_363 dX3_next_364 dX3_next_367 ?_
      refine lv_bipush (v := 61) hx hb dX3_next_368 (by decide) ?_
      refine lv_icmp_ne (tgt := 402) hx hb dX3_next_370 (by decide) (fun c_2 => neg (fun h => c_2 h.2.2)) (fun c_2 => ?_)
      have hpos : (f a = 60 ∨ f a = 62) ∧ a + 1 < n ∧ f (a + 1) = 61 := ⟨hc, h1, c_2⟩
      simp only [if_pos hpos] at fin
      have last : ∀ (v : Int32), v = (if f a = 60 then 303 else 304) → W p l e rmNx s m args below meth c H locs 0 0 Q (F0 m 389 ls [.int v, .ref q0]) := by
        intro v hv
        refine t_put (k := 4) (z1 := (a + 1, a, v, z.2.2.2)) hC hS hT ⟨by decide, by decide⟩ q316 rfl (by decide +kernel) rfl rfl dX3_next_389 (fun H locs hT hz2 hk2 hS => ?_)
        refine t_inc hC hS hT (lv_at hl 1 rfl) dX3_next_392 dX3_next_393 dX3_next_394 dX3_next_397 dX3_next_398 dX3_next_399 (fun H locs hT hz2 hk2 hS => ?_)
        rw [hv] at hT
        exact fin H locs ls hT hS (lv_sub hl [1] rfl)
      refine lv_aload_n hx hb dX3_next_373 rfl (lv_at hl 1 rfl) ?_
      refine lv_iload_n hx hb dX3_next_374 rfl (lv_at hl 0 rfl) ?_
      refine lv_bipush (v := 60) hx hb dX3_next_375 (by decide) ?_
      refine lv_icmp_ne (tgt := 386) hx hb dX3_next_377 (by decide) (fun c_3 => ?_) (fun c_3 => ?_)
      · refine lv_sipush (v := 304) hx hb dX3_next_386 (by decide) ?_
        exact last 304 (by rw [if_neg c_3])
      · refine lv_sipush (v := 303) hx hb dX3_next_380 (by decide) ?_
        refine lv_goto (tgt := 389) hx hb dX3_next_383 (by decide) ?_
        exact last 303 (by rw [if_pos c_3])
    · refine lv_icmp_ge (tgt := 402) hx hb dX3_next_356 (by decide) (fun c_1 => neg (fun h => h1 h.2.1)) (fun c_1 => absurd (nI_le (a := n) (b := a + 1) (by omega) (by omega)) c_1)
  refine lv_iload_n hx hb dX3_next_336 rfl (lv_at hl 0 rfl) ?_
  refine lv_bipush (v := 60) hx hb dX3_next_337 (by decide) ?_
  refine lv_icmp_eq (tgt := 348) hx hb dX3_next_339 (by decide) (fun c_4 => at348 (Or.inl c_4)) (fun c_4 => ?_)
  refine lv_iload_n hx hb dX3_next_342 rfl (lv_at hl 0 rfl) ?_
  refine lv_bipush (v := 62) hx hb dX3_next_343 (by decide) ?_
  refine lv_icmp_ne (tgt := 402) hx hb dX3_next_345 (by decide) (fun c_5 => neg (fun h => by rcases h.1 with h | h; exact c_4 h; exact c_5 h)) (fun c_5 => at348 (Or.inr c_5))
