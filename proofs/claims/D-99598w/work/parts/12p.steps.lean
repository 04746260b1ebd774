/-! want, number, opens -/
set_option maxRecDepth 100000
/-- a fault at a place, or a result -/
abbrev PR (α : Type) : Type := (Int32 × Nat) ⊕ α
theorem kNext_le {f : Nat → Int32} {n : Nat} {z : TS} (hz : z.1 ≤ n) : (kNext f n z).1 ≤ n := by
  have h1 := (kWs_le (f := f) (n := n) (n - z.1) z.1 hz).2
  unfold kNext
  simp only []
  split
  · exact h1
  · rename_i h2
    split
    · exact (kLs_le (f := f) (n := n) _ _ h1).2
    · split
      · exact (kDs_le (f := f) (n := n) _ _ _ h1).2
      · split
        · rename_i h3; show _ + 1 + 1 ≤ n; omega
        · show _ + 1 ≤ n; omega
def kWant (f : Nat → Int32) (n : Nat) (x : Int32) (z : TS) : PR TS := if z.2.2.1 = x then .inr (kNext f n z) else .inl (1, z.2.1)
abbrev rmSt : Room := { frames := 10, cells := 1, slots := 8, locals := 220 }
theorem wX3_want {l : Launch} {E : XE} {q0 tp n : Nat} {f : Nat → Int32} {z : TS} {x : Int32} (hl0 : l.stackTraces = false) (hn : n ≤ 300) (hz : z.1 ≤ n) : tM l E (b1 q0) yX3_want (ws_ yX3_want cX3_want 2 none) rmSt [.ref q0, .int x] (fun H => TkAt E q0 tp n f z H ∧ bN E H) (fun _ o H => o = none ∧ ∃ z1, kWant f n x z = .inr z1 ∧ TkAt E q0 tp n f z1 H) (fun _ q H => ∃ w, kWant f n x z = .inl w ∧ WrAt E q w.1 (nI w.2) H) := by
  refine t_met (own := RX3) (mn := "want") (by decide) rfl rfl (Nat.le_of_ble_eq_true rfl) (fun p e s m args below meth c hC hno hA ls hl hS => ?_)
  obtain ⟨hT, hN⟩ := hA
  have hx := hC.1.1.1
  have hb := hC.1.1.2.1
  have hts := hC.1.1.2.2.2.2.2.2
  have hl : lv_has ls 2 [(0, .ref q0), (1, .int x)] := hl
  refine lv_aload_n hx hb dX3_want_0 rfl (lv_at hl 0 rfl) ?_
  refine e_get (k := 4) (D := RX3) hC.1 hT.1 in_X3 (ci := 3) rfl (by decide) q316 rfl rfl dX3_want_1 ?_
  refine lv_iload_n hx hb dX3_want_4 rfl (lv_at hl 1 rfl) ?_
  refine lv_icmp_eq (tgt := 14) hx hb dX3_want_5 (by decide) (fun c_1 => ?_) (fun c_1 => ?_)
  · refine lv_aload_n hx hb dX3_want_14 rfl (lv_at hl 0 rfl) ?_
    refine b_callV [] q0 hC hS hl.1 (wX3_next (tp := tp) (f := f) (z := z) hn hz) hC.2.2.1 hT (e_recv hC.1 hT.1 (hC.1.2.2.1 3 _ rfl)) (cwV 0 hts (lw_V q389 q391 qs1 q126 q392) rfl rfl rfl (by decide +kernel) ⟨Nat.le_of_ble_eq_true rfl, Nat.le_of_ble_eq_true rfl⟩) rfl rfl (lv_room (Nat.le_of_ble_eq_true rfl)) ⟨Nat.le_of_ble_eq_true rfl, Nat.le_of_ble_eq_true rfl⟩ (fun q h => Or.inl h) dX3_want_15 (fun o H1 locs1 hPo hz1 hk1 hS1 => ?_)
    obtain ⟨rfl, hT1⟩ := hPo
    exact vx_ret (b_vret hC hS1 ⟨Nat.le_of_ble_eq_true rfl, Nat.le_of_ble_eq_true rfl⟩ ⟨rfl, _, if_pos c_1, hT1⟩ dX3_want_18)
  · refine lv_aload_n hx hb dX3_want_8 rfl (lv_at hl 0 rfl) ?_
    refine lv_iconst (v := 1) hx hb dX3_want_9 (by decide) ?_
    refine b_callV [.int 1] q0 hC hS hl.1 (wX3_wrong (tp := tp) (n := n) (f := f) (z := z) hl0) (fun _ h => h.elim) ⟨hT, hN⟩ (e_recv hC.1 hT.1 (hC.1.2.2.1 3 _ rfl)) (cwV 1 hts (lw_V q458 q460 qs3 q126 q461) rfl rfl rfl (by decide +kernel) ⟨Nat.le_of_ble_eq_true rfl, Nat.le_of_ble_eq_true rfl⟩) rfl rfl (lv_room (Nat.le_of_ble_eq_true rfl)) ⟨Nat.le_of_ble_eq_true rfl, Nat.le_of_ble_eq_true rfl⟩ (fun _ h => h.elim) dX3_want_10 (fun o H1 locs1 hPo hz1 hk1 hS1 => ?_)
    obtain ⟨rfl, w0, w1, w2, w3, w4, w5, hW⟩ := hPo
    exact t_throw hC hno hS1 hW ⟨(1, z.2.1), if_neg c_1, w0, w1, w2, w3, w4, w5, hW⟩ ⟨Nat.le_of_ble_eq_true rfl, Nat.le_of_ble_eq_true rfl⟩ dX3_want_13
section TF
variable {p : Program} {l : Launch} {e : Env} {R : Room} {s : State} {m : MethodId} {args : Array Value} {below : List Frame} {meth : Method} {c : Code} {H : Heap} {locs : List Loc} {cells slots : Nat} {Q : State → Prop} {E : XE} {A : Nat → Prop} {mn : String} {cc : ByteArray} {nL : Nat} {rt : Option FieldType} {ls : Array Slot} {pc : Nat} {rest : List Value} {Po : Option Value → Heap → Prop} {Xo : Nat → Heap → Prop} {q0 tp n : Nat} {f : Nat → Int32} {z : TS}
/-- throw wrong(x) -/
theorem t_fault (x : Int32) (hl0 : l.stackTraces = false) (hC : bC E A mn RX3 cc nL rt p s m args meth c) (hno : ∀ x ∈ c.exceptionTable.toList, False) (hS : va_S (bW A s.heap.size) s.heap H locs) (hls : ls.size = nL) (hT : TkAt E q0 tp n f z H) (hN : bN E s.heap) (hl : ls[0]? = some (.val (.ref q0))) (hR : 10 ≤ R.frames ∧ 201 ≤ R.locals) (hfit : cells + 1 ≤ R.cells ∧ slots + 8 ≤ R.slots) {i : Int32} (hi : i = x) (d0 : decode cc pc = .ok (.aload_n 0, 1)) (d1 : ∀ Q' : State → Prop, ∀ v : Int32, v = x → W p l e R s m args below meth c H locs cells slots Q' (F0 m (pc + 2) ls [.int v, .ref q0]) → W p l e R s m args below meth c H locs cells slots Q' (F0 m (pc + 1) ls [.ref q0])) (d2 : decode cc (pc + 2) = .ok (.invokevirtual 70, 3)) (d3 : decode cc (pc + 5) = .ok (.athrow, 1)) (hXo : ∀ H1, WrAt E H.size x (nI z.2.1) H1 → Xo H.size H1) : W p l e R s m args below meth c H locs cells slots (tQ A R below args s Po Xo) (F0 m pc ls []) := by
  have hx := hC.1.1.1
  have hb := hC.1.1.2.1
  have hts := hC.1.1.2.2.2.2.2.2
  refine lv_aload_n hx hb d0 rfl hl ?_
  refine d1 _ x rfl ?_
  refine b_callV [.int x] q0 hC hS hls (wX3_wrong (tp := tp) (n := n) (f := f) (z := z) hl0) (fun _ h => h.elim) ⟨hT, fun q hq => hN q (Nat.le_trans hS.1 hq)⟩ (e_recv hC.1 hT.1 (hC.1.2.2.1 3 _ rfl)) (cwV 1 hts (lw_V q458 q460 qs3 q126 q461) rfl rfl rfl (by decide +kernel) ⟨hR.1, by show 8 + (2 + 11) + 180 ≤ R.locals; omega⟩) rfl rfl (lv_room (Nat.le_of_ble_eq_true rfl)) hfit (fun _ h => h.elim) d2 (fun o H1 locs1 hPo hz1 hk1 hS1 => ?_)
  obtain ⟨rfl, w0, w1, w2, w3, w4, w5, hW⟩ := hPo
  exact t_throw hC hno hS1 hW (hXo H1 ⟨w0, w1, w2, w3, w4, w5, hW⟩) hfit d3
/-- next() -/
theorem t_next (hC : bC E A mn RX3 cc nL rt p s m args meth c) (hS : va_S (bW A s.heap.size) s.heap H locs) (hls : ls.size = nL) (hT : TkAt E q0 tp n f z H) (hA : bW A s.heap.size q0) (hq : ¬ E.2.2.2.2.1 q0) (hn : n ≤ 300) (hz : z.1 ≤ n) (hl : ls[0]? = some (.val (.ref q0))) (hR : 6 ≤ R.frames ∧ 182 ≤ R.locals) (hfit : cells ≤ R.cells ∧ slots ≤ R.slots) (hroom : 2 * (F0 m (pc + 1) ls (.ref q0 :: rest)).monitorRoom + (rest.map fun v => v.category).sum ≤ 8) (d0 : decode cc pc = .ok (.aload_n 0, 1)) (d1 : decode cc (pc + 1) = .ok (.invokevirtual 74, 3))
    (kk : ∀ (H1 : Heap) (locs1 : List Loc), TkAt E q0 tp n f (kNext f n z) H1 → H.size ≤ H1.size → (∀ q, q < H.size → q ≠ q0 → H1[q]? = H[q]?) → va_S (bW A s.heap.size) s.heap H1 locs1 → W p l e R s m args below meth c H1 locs1 cells slots Q (F0 m (pc + 4) ls rest)) : W p l e R s m args below meth c H locs cells slots Q (F0 m pc ls rest) := by
  have hx := hC.1.1.1
  have hb := hC.1.1.2.1
  have hts := hC.1.1.2.2.2.2.2.2
  refine lv_aload_n hx hb d0 rfl hl ?_
  refine b_callV [] q0 hC hS hls (wX3_next (tp := tp) (f := f) (z := z) hn hz) (fun q h => by rw [h]; exact hq) hT (e_recv hC.1 hT.1 (hC.1.2.2.1 3 _ rfl)) (cwV 0 hts (lw_V q389 q391 qs1 q126 q392) rfl rfl rfl (by decide +kernel) ⟨hR.1, by show 8 + (3 + 11) + 160 ≤ R.locals; omega⟩) rfl rfl hroom hfit (fun q h => by rw [h]; exact hA) d1 (fun o H1 locs1 hPo hz1 hk1 hS1 => ?_)
  obtain ⟨rfl, hT1⟩ := hPo
  exact kk H1 locs1 hT1 hz1 hk1 hS1
end TF
def kNum (f : Nat → Int32) (n : Nat) (lo hi : Int32) (z : TS) : PR (Int32 × TS) := if ¬ z.2.2.1 = 300 then .inl (1, z.2.1) else if z.2.2.2.1 < lo ∨ hi < z.2.2.2.1 then .inl (2, z.2.1) else .inr (z.2.2.2.1, kNext f n z)
theorem wX3_number {l : Launch} {E : XE} {q0 tp n : Nat} {f : Nat → Int32} {z : TS} {x y : Int32} (hl0 : l.stackTraces = false) (hn : n ≤ 300) (hz : z.1 ≤ n) : tM l E (b1 q0) yX3_number (ws_ yX3_number cX3_number 4 (some .int)) rmSt [.ref q0, .int x, .int y] (fun H => TkAt E q0 tp n f z H ∧ bN E H) (fun _ o H => ∃ v z1, kNum f n x y z = .inr (v, z1) ∧ o = some (.int v) ∧ TkAt E q0 tp n f z1 H) (fun _ q H => ∃ w, kNum f n x y z = .inl w ∧ WrAt E q w.1 (nI w.2) H) := by
  refine t_met (own := RX3) (mn := "number") (by decide) rfl rfl (Nat.le_of_ble_eq_true rfl) (fun p e s m args below meth c hC hno hA ls hl hS => ?_)
  obtain ⟨hT, hN⟩ := hA
  have hx := hC.1.1.1
  have hb := hC.1.1.2.1
  have hl : lv_has ls 4 [(0, .ref q0), (1, .int x), (2, .int y)] := hl
  refine lv_aload_n hx hb dX3_number_0 rfl (lv_at hl 0 rfl) ?_
  refine e_get (k := 4) (D := RX3) hC.1 hT.1 in_X3 (ci := 3) rfl (by decide) q316 rfl rfl dX3_number_1 ?_
  refine lv_sipush (v := 300) hx hb dX3_number_4 (by decide) ?_
  refine lv_icmp_eq (tgt := 16) hx hb dX3_number_7 (by decide) (fun c_1 => ?_) (fun c_1 => ?_)
  · have bad : (z.2.2.2.1 < x ∨ y < z.2.2.2.1) → W p l e rmSt s m args below meth c s.heap [] 0 0 (tQ (b1 q0) rmSt below args s (fun o H => ∃ v z1, kNum f n x y z = .inr (v, z1) ∧ o = some (.int v) ∧ TkAt E q0 tp n f z1 H) (fun q H => ∃ w, kNum f n x y z = .inl w ∧ WrAt E q w.1 (nI w.2) H)) (F0 m 32 ls []) := by
      intro h
      refine t_fault 2 hl0 hC hno hS hl.1 hT hN (lv_at hl 0 rfl) ⟨Nat.le_of_ble_eq_true rfl, Nat.le_of_ble_eq_true rfl⟩ ⟨Nat.le_of_ble_eq_true rfl, Nat.le_of_ble_eq_true rfl⟩ rfl dX3_number_32 (fun Q' v hv kk => ?_) dX3_number_34 dX3_number_37 (fun H1 hW => ⟨(2, z.2.1), ?_, hW⟩)
      · refine lv_iconst (v := 2) hx hb dX3_number_33 (by decide) ?_
        rw [hv] at kk
        exact kk
      · unfold kNum
        rw [if_neg (fun h9 => h9 c_1), if_pos h]
    refine lv_aload_n hx hb dX3_number_16 rfl (lv_at hl 0 rfl) ?_
    refine e_get (k := 5) (D := RX3) hC.1 hT.1 in_X3 (ci := 3) rfl (by decide) q317 rfl rfl dX3_number_17 ?_
    refine lv_iload_n hx hb dX3_number_20 rfl (lv_at hl 1 rfl) ?_
    refine lv_icmp_lt (tgt := 32) hx hb dX3_number_21 (by decide) (fun c_2 => bad (Or.inl c_2)) (fun c_2 => ?_)
    refine lv_aload_n hx hb dX3_number_24 rfl (lv_at hl 0 rfl) ?_
    refine e_get (k := 5) (D := RX3) hC.1 hT.1 in_X3 (ci := 3) rfl (by decide) q317 rfl rfl dX3_number_25 ?_
    refine lv_iload_n hx hb dX3_number_28 rfl (lv_at hl 2 rfl) ?_
    refine lv_icmp_le (tgt := 38) hx hb dX3_number_29 (by decide) (fun c_3 => ?_) (fun c_3 => bad (Or.inr (Int32.not_le.mp c_3)))
    refine lv_aload_n hx hb dX3_number_38 rfl (lv_at hl 0 rfl) ?_
    refine e_get (k := 5) (D := RX3) hC.1 hT.1 in_X3 (ci := 3) rfl (by decide) q317 rfl rfl dX3_number_39 ?_
    refine lv_istore_n (lv' := [(3, .int z.2.2.2.1), (0, .ref q0), (1, .int x), (2, .int y)]) hx hb dX3_number_42 rfl hl (Nat.le_of_ble_eq_true rfl) rfl (fun ls hl => ?_)
    refine t_next hC hS hl.1 hT (Or.inl rfl) (hC.2.2.1 q0 rfl) hn hz (lv_at hl 1 rfl) ⟨Nat.le_of_ble_eq_true rfl, Nat.le_of_ble_eq_true rfl⟩ ⟨Nat.zero_le _, Nat.zero_le _⟩ (lv_room (Nat.le_of_ble_eq_true rfl)) dX3_number_43 dX3_number_44 (fun H1 locs1 hT1 hz1 hk1 hS1 => ?_)
    refine lv_iload_n hx hb dX3_number_47 rfl (lv_at hl 0 rfl) ?_
    refine vx_ret (b_iret hC hS1 ⟨Nat.zero_le _, Nat.zero_le _⟩ ⟨z.2.2.2.1, _, ?_, rfl, hT1⟩ dX3_number_48)
    unfold kNum
    rw [if_neg (fun h9 => h9 c_1), if_neg (fun h => by rcases h with h | h; exact c_2 h; exact absurd c_3 (Int32.not_le.mpr h))]
  · refine t_fault 1 hl0 hC hno hS hl.1 hT hN (lv_at hl 0 rfl) ⟨Nat.le_of_ble_eq_true rfl, Nat.le_of_ble_eq_true rfl⟩ ⟨Nat.le_of_ble_eq_true rfl, Nat.le_of_ble_eq_true rfl⟩ rfl dX3_number_10 (fun Q' v hv kk => ?_) dX3_number_12 dX3_number_15 (fun H1 hW => ⟨(1, z.2.1), if_pos c_1, hW⟩)
    refine lv_iconst (v := 1) hx hb dX3_number_11 (by decide) ?_
    rw [hv] at kk
    exact kk
def kOpn (f : Nat → Int32) (n : Nat) (z : TS) : PR TS := if z.2.2.2.2.1 = 8 then .inl (3, z.2.1) else .inr (kNext f n (z.1, z.2.1, z.2.2.1, z.2.2.2.1, z.2.2.2.2.1 + 1, z.2.2.2.2.2))
theorem wX3_opens {l : Launch} {E : XE} {q0 tp n : Nat} {f : Nat → Int32} {z : TS} (hl0 : l.stackTraces = false) (hn : n ≤ 300) (hz : z.1 ≤ n) (ho : z.2.2.2.2.1 ≤ 8) : tM l E (b1 q0) yX3_opens (ws_ yX3_opens cX3_opens 1 none) rmSt [.ref q0] (fun H => TkAt E q0 tp n f z H ∧ bN E H) (fun _ o H => o = none ∧ ∃ z1, kOpn f n z = .inr z1 ∧ TkAt E q0 tp n f z1 H) (fun _ q H => ∃ w, kOpn f n z = .inl w ∧ WrAt E q w.1 (nI w.2) H) := by
  refine t_met (own := RX3) (mn := "opens") (by decide) rfl rfl (Nat.le_of_ble_eq_true rfl) (fun p e s m args below meth c hC hno hA ls hl hS => ?_)
  obtain ⟨hT, hN⟩ := hA
  have hx := hC.1.1.1
  have hb := hC.1.1.2.1
  have hl : lv_has ls 1 [(0, .ref q0)] := hl
  refine lv_aload_n hx hb dX3_opens_0 rfl (lv_at hl 0 rfl) ?_
  refine e_get (k := 6) (D := RX3) hC.1 hT.1 in_X3 (ci := 3) rfl (by decide) q318 rfl rfl dX3_opens_1 ?_
  refine lv_bipush (v := 8) hx hb dX3_opens_4 (by decide) ?_
  by_cases h8 : z.2.2.2.2.1 = 8
  · refine lv_icmp_ne (tgt := 15) hx hb dX3_opens_6 (by decide) (fun c_1 => absurd (by rw [h8]; rfl) c_1) (fun c_1 => ?_)
    refine t_fault 3 hl0 hC hno hS hl.1 hT hN (lv_at hl 0 rfl) ⟨Nat.le_of_ble_eq_true rfl, Nat.le_of_ble_eq_true rfl⟩ ⟨Nat.le_of_ble_eq_true rfl, Nat.le_of_ble_eq_true rfl⟩ rfl dX3_opens_9 (fun Q' v hv kk => ?_) dX3_opens_11 dX3_opens_14 (fun H1 hW => ⟨(3, z.2.1), if_pos h8, hW⟩)
    refine lv_iconst (v := 3) hx hb dX3_opens_10 (by decide) ?_
    rw [hv] at kk
    exact kk
  · have h9 : ¬ nI z.2.2.2.2.1 = 8 := fun h => h8 ((nI_eq (a := z.2.2.2.2.1) (b := 8) (by omega) (by decide)).mp h)
    refine lv_icmp_ne (tgt := 15) hx hb dX3_opens_6 (by decide) (fun c_1 => ?_) (fun c_1 => absurd c_1 h9)
    refine lv_aload_n hx hb dX3_opens_15 rfl (lv_at hl 0 rfl) ?_
    refine lv_dup hx hb dX3_opens_16 rfl ?_
    refine e_get (k := 6) (D := RX3) hC.1 hT.1 in_X3 (ci := 3) rfl (by decide) q318 rfl rfl dX3_opens_17 ?_
    refine lv_iconst (v := 1) hx hb dX3_opens_20 (by decide) ?_
    refine lv_iadd hx hb dX3_opens_21 ?_
    rw [nI_1]
    refine t_put (k := 6) (z1 := (z.1, z.2.1, z.2.2.1, z.2.2.2.1, z.2.2.2.2.1 + 1, z.2.2.2.2.2)) hC hS hT ⟨by decide, by decide⟩ q318 rfl (by decide +kernel) rfl rfl dX3_opens_22 (fun H1 locs1 hT1 hz1 hk1 hS1 => ?_)
    refine t_next hC hS1 hl.1 hT1 (Or.inl rfl) (hC.2.2.1 q0 rfl) hn hz (lv_at hl 0 rfl) ⟨Nat.le_of_ble_eq_true rfl, Nat.le_of_ble_eq_true rfl⟩ ⟨Nat.zero_le _, Nat.zero_le _⟩ (lv_room (Nat.le_of_ble_eq_true rfl)) dX3_opens_25 dX3_opens_26 (fun H2 locs2 hT2 hz2 hk2 hS2 => ?_)
    exact vx_ret (b_vret hC hS2 ⟨Nat.zero_le _, Nat.zero_le _⟩ ⟨rfl, _, if_neg h8, hT2⟩ dX3_opens_29)
