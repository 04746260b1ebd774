/-! two, doing -/
set_option maxRecDepth 100000
abbrev DG : Type := Int32 × Int32 × Int32 × Int32
def kTwo (f : Nat → Int32) (n : Nat) (lo hi word behind clause : Int32) (z : TS) : PR (DG × TS) := match kNum f n lo hi z with
  | .inl w => .inl w
  | .inr (a, z1) => match kWant f n word z1 with
    | .inl w => .inl w
    | .inr z2 => match kNum f n 0 behind z2 with
      | .inl w => .inl w
      | .inr (b, z3) => .inr ((z2.2.2.2.2.2, a, b, clause), z3)
theorem kNum_le {f : Nat → Int32} {n : Nat} {lo hi v : Int32} {z z1 : TS} (hz : z.1 ≤ n) (h : kNum f n lo hi z = .inr (v, z1)) : z1.1 ≤ n := by
  unfold kNum at h
  split at h
  · cases h
  · split at h
    · cases h
    · cases h; exact kNext_le hz
theorem kWant_le {f : Nat → Int32} {n : Nat} {x : Int32} {z z1 : TS} (hz : z.1 ≤ n) (h : kWant f n x z = .inr z1) : z1.1 ≤ n := by
  unfold kWant at h
  split at h
  · cases h; exact kNext_le hz
  · cases h
theorem bN.le {E : XE} {H H1 : Heap} (h : bN E H) (hs : H.size ≤ H1.size) : bN E H1 := fun q hq => h q (Nat.le_trans hs hq)
abbrev rmTwo : Room := { frames := 12, cells := 4, slots := 28, locals := 260 }
theorem wX3_two {l : Launch} {E : XE} {q0 tp n : Nat} {f : Nat → Int32} {z : TS} {x1 x2 x3 x4 x5 : Int32} (hl0 : l.stackTraces = false) (hn : n ≤ 300) (hz : z.1 ≤ n) : tM l E (b1 q0) yX3_two (ws_ yX3_two cX3_two 7 (some (.object "RailingsCount$Doing"))) rmTwo [.ref q0, .int x1, .int x2, .int x3, .int x4, .int x5] (fun H => TkAt E q0 tp n f z H ∧ bN E H) (fun sz o H => ∃ d z1 q, kTwo f n x1 x2 x3 x4 x5 z = .inr (d, z1) ∧ o = some (.ref q) ∧ sz ≤ q ∧ va_at E.1 E.2.1 (q, .inr (15, [.int d.1, .int d.2.1, .int d.2.2.1, .int d.2.2.2])) H ∧ TkAt E q0 tp n f z1 H) (fun _ q H => ∃ w, kTwo f n x1 x2 x3 x4 x5 z = .inl w ∧ WrAt E q w.1 (nI w.2) H) := by
  refine t_met (own := RX3) (mn := "two") (by decide) rfl rfl (Nat.le_of_ble_eq_true rfl) (fun p e s m args below meth c hC hno hA ls hl hS => ?_)
  obtain ⟨hT, hN⟩ := hA
  have hx := hC.1.1.1
  have hb := hC.1.1.2.1
  have hts := hC.1.1.2.2.2.2.2.2
  have hl : lv_has ls 7 [(0, .ref q0), (1, .int x1), (2, .int x2), (3, .int x3), (4, .int x4), (5, .int x5)] := hl
  refine lv_aload_n hx hb dX3_two_0 rfl (lv_at hl 0 rfl) ?_
  refine lv_iload_n hx hb dX3_two_1 rfl (lv_at hl 1 rfl) ?_
  refine lv_iload_n hx hb dX3_two_2 rfl (lv_at hl 2 rfl) ?_
  refine t_callV [.int x1, .int x2] q0 hC hno hS hl.1 (wX3_number (tp := tp) (f := f) (z := z) hl0 hn hz) hC.2.2.1 ⟨hT, hN⟩ (e_recv hC.1 hT.1 (hC.1.2.2.1 3 _ rfl)) (cwV 2 hts (lw_V q542 q544 qs8 q126 q545) rfl rfl rfl (by decide +kernel) ⟨Nat.le_of_ble_eq_true rfl, Nat.le_of_ble_eq_true rfl⟩) rfl rfl (lv_room (Nat.le_of_ble_eq_true rfl)) ⟨Nat.le_of_ble_eq_true rfl, Nat.le_of_ble_eq_true rfl⟩ (fun q h => Or.inl h) dX3_two_3 (fun q H1 hX => ?_) (fun o H1 locs1 hPo hs1 hk1 hS1 => ?_)
  · obtain ⟨w, h1, h2⟩ := hX
    exact ⟨w, by unfold kTwo; rw [h1], h2⟩
  obtain ⟨a, z1, e1, rfl, hT1⟩ := hPo
  have hz1 := kNum_le hz e1
  refine lv_istore (lv' := [(6, .int a), (0, .ref q0), (1, .int x1), (2, .int x2), (3, .int x3), (4, .int x4), (5, .int x5)]) hx hb dX3_two_6 hl (Nat.le_of_ble_eq_true rfl) rfl (fun ls hl => ?_)
  refine lv_aload_n hx hb dX3_two_8 rfl (lv_at hl 1 rfl) ?_
  refine lv_iload_n hx hb dX3_two_9 rfl (lv_at hl 4 rfl) ?_
  refine t_callV [.int x3] q0 hC hno hS1 hl.1 (wX3_want (tp := tp) (f := f) (z := z1) hl0 hn hz1) hC.2.2.1 ⟨hT1, hN.le hs1⟩ (e_recv hC.1 hT1.1 (hC.1.2.2.1 3 _ rfl)) (cwV 1 hts (lw_V q697 q699 qs17 q126 q700) rfl rfl rfl (by decide +kernel) ⟨Nat.le_of_ble_eq_true rfl, Nat.le_of_ble_eq_true rfl⟩) rfl rfl (lv_room (Nat.le_of_ble_eq_true rfl)) ⟨Nat.le_of_ble_eq_true rfl, Nat.le_of_ble_eq_true rfl⟩ (fun q h => Or.inl h) dX3_two_10 (fun q H2 hX => ?_) (fun o H2 locs2 hPo hs2 hk2 hS2 => ?_)
  · obtain ⟨w, h1, h2⟩ := hX
    exact ⟨w, by unfold kTwo; rw [e1]; simp only [h1], h2⟩
  obtain ⟨rfl, z2, e2, hT2⟩ := hPo
  have hz2 := kWant_le hz1 e2
  refine b_new (fs := [.int 0, .int 0, .int 0, .int 0]) hC hS2 in_X16 tyX16 tyX16_ok q831 q832 q155 (ci := 15) rfl (by decide +kernel) (Nat.le_of_ble_eq_true rfl) (Nat.le_of_ble_eq_true rfl) dX3_two_13 (fun H3 hD3 hs3 hk3 hS3 => ?_)
  have hT3 : TkAt E q0 tp n f z2 H3 := ⟨hT2.1.kept (hk3 q0 hT2.1.lt), hT2.2.1.kept (hk3 tp hT2.2.1.lt), hT2.2.2⟩
  refine lv_dup hx hb dX3_two_16 rfl ?_
  refine lv_aload_n hx hb dX3_two_17 rfl (lv_at hl 1 rfl) ?_
  refine e_get (k := 7) (D := RX3) hC.1 hT3.1 in_X3 (ci := 3) rfl (by decide) q319 rfl rfl dX3_two_18 ?_
  refine lv_iload hx hb dX3_two_21 (lv_at hl 0 rfl) ?_
  refine lv_aload_n hx hb dX3_two_23 rfl (lv_at hl 1 rfl) ?_
  refine lv_iconst (v := 0) hx hb dX3_two_24 (by decide) ?_
  refine lv_iload hx hb dX3_two_25 (lv_at hl 5 rfl) ?_
  refine t_callV [.int 0, .int x4] q0 hC hno hS3 hl.1 (wX3_number (tp := tp) (f := f) (z := z2) hl0 hn hz2) hC.2.2.1 ⟨hT3, hN.le (by omega)⟩ (e_recv hC.1 hT3.1 (hC.1.2.2.1 3 _ rfl)) (cwV 2 hts (lw_V q542 q544 qs8 q126 q545) rfl rfl rfl (by decide +kernel) ⟨Nat.le_of_ble_eq_true rfl, Nat.le_of_ble_eq_true rfl⟩) rfl rfl (lv_room (Nat.le_of_ble_eq_true rfl)) ⟨Nat.le_of_ble_eq_true rfl, Nat.le_of_ble_eq_true rfl⟩ (fun q h => Or.inl h) dX3_two_27 (fun q H4 hX => ?_) (fun o H4 locs4 hPo hs4 hk4 hS4 => ?_)
  · obtain ⟨w, h1, h2⟩ := hX
    exact ⟨w, by unfold kTwo; rw [e1]; simp only [e2, h1], h2⟩
  obtain ⟨b, z3, e3, rfl, hT4⟩ := hPo
  have hne : H2.size ≠ q0 := fun h => by have := hT2.1.lt; omega
  have hD4 := hD3.kept (hk4 H2.size (by omega) hne)
  refine lv_iload hx hb dX3_two_30 (lv_at hl 6 rfl) ?_
  refine b_callIN [.int z2.2.2.2.2.2, .int a, .int b, .int x5] H2.size hC hS4 hl.1 (wX16_init (a := H2.size)) (fun q hq => by rw [hq]; exact hN _ (by omega)) hD4 ⟨va_cnB 4 hts (lw_meth q835) rfl rfl rfl (nm_Tokens_119 hC.2.1.1) (hts _ q155) (by decide +kernel) ⟨Nat.le_of_ble_eq_true rfl, Nat.le_of_ble_eq_true rfl⟩, rfl, hts _ q834⟩ rfl rfl (lv_room (Nat.le_of_ble_eq_true rfl)) ⟨Nat.le_of_ble_eq_true rfl, Nat.le_of_ble_eq_true rfl⟩ (fun q hq => by rw [hq]; exact Or.inr (by omega)) dX3_two_32 (fun o H5 locs5 hPo hs5 hk5 hS5 => ?_)
  obtain ⟨rfl, hD5⟩ := hPo
  refine vx_ret (b_aret hC (Or.inl ⟨_, rfl⟩) hS5 ⟨Nat.le_of_ble_eq_true rfl, Nat.le_of_ble_eq_true rfl⟩ ⟨(z2.2.2.2.2.2, a, b, x5), z3, H2.size, ?_, rfl, by omega, hD5, hT4.1.kept (hk5 q0 hT4.1.lt (fun h => hne h.symm)), hT4.2.1.kept (hk5 tp hT4.2.1.lt (fun h => by have := hT2.2.1.lt; have h : tp = H2.size := h; omega)), hT4.2.2⟩ dX3_two_35)
  unfold kTwo
  rw [e1]
  simp only [e2, e3]
def kOne (f : Nat → Int32) (n : Nat) (lo hi clause : Int32) (z : TS) : PR (DG × TS) := match kNum f n lo hi z with
  | .inl w => .inl w
  | .inr (a, z1) => .inr ((z.2.2.2.2.2, a, -1, clause), z1)
def kDoi (f : Nat → Int32) (n : Nat) (clause : Int32) (z : TS) : PR (DG × TS) :=
  if z.2.2.2.2.2 = 202 then kTwo f n 0 29 209 3 clause z
  else if z.2.2.2.2.2 = 203 then kTwo f n 0 9 210 29 clause z
  else if z.2.2.2.2.2 = 204 then kTwo f n 1 9 211 9 clause z
  else if z.2.2.2.2.2 = 205 then kTwo f n 0 6 212 29 clause z
  else if z.2.2.2.2.2 = 208 then kOne f n 1 60 clause z
  else kOne f n 0 29 clause z
abbrev rmDoi : Room := { frames := 14, cells := 4, slots := 28, locals := 300 }
theorem wX3_doing {l : Launch} {E : XE} {q0 tp n : Nat} {f : Nat → Int32} {z : TS} {x : Int32} (hl0 : l.stackTraces = false) (hn : n ≤ 300) (hz : z.1 ≤ n) : tM l E (b1 q0) yX3_doing (ws_ yX3_doing cX3_doing 2 (some (.object "RailingsCount$Doing"))) rmDoi [.ref q0, .int x] (fun H => TkAt E q0 tp n f z H ∧ bN E H) (fun sz o H => ∃ d z1 q, kDoi f n x z = .inr (d, z1) ∧ o = some (.ref q) ∧ sz ≤ q ∧ va_at E.1 E.2.1 (q, .inr (15, [.int d.1, .int d.2.1, .int d.2.2.1, .int d.2.2.2])) H ∧ TkAt E q0 tp n f z1 H) (fun _ q H => ∃ w, kDoi f n x z = .inl w ∧ WrAt E q w.1 (nI w.2) H) := by
  refine t_met (own := RX3) (mn := "doing") (by decide) rfl rfl (Nat.le_of_ble_eq_true rfl) (fun p e s m args below meth c hC hno hA ls hl hS => ?_)
  obtain ⟨hT, hN⟩ := hA
  have hx := hC.1.1.1
  have hb := hC.1.1.2.1
  have hts := hC.1.1.2.2.2.2.2.2
  have hl : lv_has ls 2 [(0, .ref q0), (1, .int x)] := hl
  refine lv_aload_n hx hb dX3_doing_0 rfl (lv_at hl 0 rfl) ?_
  refine e_get (k := 7) (D := RX3) hC.1 hT.1 in_X3 (ci := 3) rfl (by decide) q319 rfl rfl dX3_doing_1 ?_
  by_cases c_202 : z.2.2.2.2.2 = 202
  · refine lv_tableIn (tgt := 48) (off := 44) hx hb dX3_doing_4 (by rw [c_202]; decide) (by rw [c_202]; decide) (by rw [c_202]; rfl) (by decide) ?_
    refine lv_aload_n hx hb dX3_doing_48 rfl (lv_at hl 0 rfl) ?_
    refine lv_iconst (v := 0) hx hb dX3_doing_49 (by decide) ?_
    refine lv_bipush (v := 29) hx hb dX3_doing_50 (by decide) ?_
    refine lv_sipush (v := 209) hx hb dX3_doing_52 (by decide) ?_
    refine lv_iconst (v := 3) hx hb dX3_doing_55 (by decide) ?_
    refine lv_iload_n hx hb dX3_doing_56 rfl (lv_at hl 1 rfl) ?_
    refine t_callV [.int 0, .int 29, .int 209, .int 3, .int x] q0 hC hno hS hl.1 (wX3_two (tp := tp) (f := f) (z := z) hl0 hn hz) hC.2.2.1 ⟨hT, hN⟩ (e_recv hC.1 hT.1 (hC.1.2.2.1 3 _ rfl)) (cwV 5 hts (lw_V q827 q829 qs22 q126 q830) rfl rfl rfl (by decide +kernel) ⟨Nat.le_of_ble_eq_true rfl, Nat.le_of_ble_eq_true rfl⟩) rfl rfl (lv_room (Nat.le_of_ble_eq_true rfl)) ⟨Nat.le_of_ble_eq_true rfl, Nat.le_of_ble_eq_true rfl⟩ (fun q h => Or.inl h) dX3_doing_57 (fun q H1 hX => ?_) (fun o H1 locs1 hPo hs1 hk1 hS1 => ?_)
    · obtain ⟨w, h1, h2⟩ := hX
      exact ⟨w, by unfold kDoi; rw [if_pos c_202]; exact h1, h2⟩
    · obtain ⟨d, z1, q, h1, rfl, h2, h3, h4⟩ := hPo
      exact vx_ret (b_aret hC (Or.inl ⟨_, rfl⟩) hS1 ⟨Nat.le_of_ble_eq_true rfl, Nat.le_of_ble_eq_true rfl⟩ ⟨d, z1, q, by unfold kDoi; rw [if_pos c_202]; exact h1, rfl, h2, h3, h4⟩ dX3_doing_60)
  by_cases c_203 : z.2.2.2.2.2 = 203
  · refine lv_tableIn (tgt := 61) (off := 57) hx hb dX3_doing_4 (by rw [c_203]; decide) (by rw [c_203]; decide) (by rw [c_203]; rfl) (by decide) ?_
    refine lv_aload_n hx hb dX3_doing_61 rfl (lv_at hl 0 rfl) ?_
    refine lv_iconst (v := 0) hx hb dX3_doing_62 (by decide) ?_
    refine lv_bipush (v := 9) hx hb dX3_doing_63 (by decide) ?_
    refine lv_sipush (v := 210) hx hb dX3_doing_65 (by decide) ?_
    refine lv_bipush (v := 29) hx hb dX3_doing_68 (by decide) ?_
    refine lv_iload_n hx hb dX3_doing_70 rfl (lv_at hl 1 rfl) ?_
    refine t_callV [.int 0, .int 9, .int 210, .int 29, .int x] q0 hC hno hS hl.1 (wX3_two (tp := tp) (f := f) (z := z) hl0 hn hz) hC.2.2.1 ⟨hT, hN⟩ (e_recv hC.1 hT.1 (hC.1.2.2.1 3 _ rfl)) (cwV 5 hts (lw_V q827 q829 qs22 q126 q830) rfl rfl rfl (by decide +kernel) ⟨Nat.le_of_ble_eq_true rfl, Nat.le_of_ble_eq_true rfl⟩) rfl rfl (lv_room (Nat.le_of_ble_eq_true rfl)) ⟨Nat.le_of_ble_eq_true rfl, Nat.le_of_ble_eq_true rfl⟩ (fun q h => Or.inl h) dX3_doing_71 (fun q H1 hX => ?_) (fun o H1 locs1 hPo hs1 hk1 hS1 => ?_)
    · obtain ⟨w, h1, h2⟩ := hX
      exact ⟨w, by unfold kDoi; rw [if_neg c_202]; rw [if_pos c_203]; exact h1, h2⟩
    · obtain ⟨d, z1, q, h1, rfl, h2, h3, h4⟩ := hPo
      exact vx_ret (b_aret hC (Or.inl ⟨_, rfl⟩) hS1 ⟨Nat.le_of_ble_eq_true rfl, Nat.le_of_ble_eq_true rfl⟩ ⟨d, z1, q, by unfold kDoi; rw [if_neg c_202]; rw [if_pos c_203]; exact h1, rfl, h2, h3, h4⟩ dX3_doing_74)
  by_cases c_204 : z.2.2.2.2.2 = 204
  · refine lv_tableIn (tgt := 75) (off := 71) hx hb dX3_doing_4 (by rw [c_204]; decide) (by rw [c_204]; decide) (by rw [c_204]; rfl) (by decide) ?_
    refine lv_aload_n hx hb dX3_doing_75 rfl (lv_at hl 0 rfl) ?_
    refine lv_iconst (v := 1) hx hb dX3_doing_76 (by decide) ?_
    refine lv_bipush (v := 9) hx hb dX3_doing_77 (by decide) ?_
    refine lv_sipush (v := 211) hx hb dX3_doing_79 (by decide) ?_
    refine lv_bipush (v := 9) hx hb dX3_doing_82 (by decide) ?_
    refine lv_iload_n hx hb dX3_doing_84 rfl (lv_at hl 1 rfl) ?_
    refine t_callV [.int 1, .int 9, .int 211, .int 9, .int x] q0 hC hno hS hl.1 (wX3_two (tp := tp) (f := f) (z := z) hl0 hn hz) hC.2.2.1 ⟨hT, hN⟩ (e_recv hC.1 hT.1 (hC.1.2.2.1 3 _ rfl)) (cwV 5 hts (lw_V q827 q829 qs22 q126 q830) rfl rfl rfl (by decide +kernel) ⟨Nat.le_of_ble_eq_true rfl, Nat.le_of_ble_eq_true rfl⟩) rfl rfl (lv_room (Nat.le_of_ble_eq_true rfl)) ⟨Nat.le_of_ble_eq_true rfl, Nat.le_of_ble_eq_true rfl⟩ (fun q h => Or.inl h) dX3_doing_85 (fun q H1 hX => ?_) (fun o H1 locs1 hPo hs1 hk1 hS1 => ?_)
    · obtain ⟨w, h1, h2⟩ := hX
      exact ⟨w, by unfold kDoi; rw [if_neg c_202]; rw [if_neg c_203]; rw [if_pos c_204]; exact h1, h2⟩
    · obtain ⟨d, z1, q, h1, rfl, h2, h3, h4⟩ := hPo
      exact vx_ret (b_aret hC (Or.inl ⟨_, rfl⟩) hS1 ⟨Nat.le_of_ble_eq_true rfl, Nat.le_of_ble_eq_true rfl⟩ ⟨d, z1, q, by unfold kDoi; rw [if_neg c_202]; rw [if_neg c_203]; rw [if_pos c_204]; exact h1, rfl, h2, h3, h4⟩ dX3_doing_88)
  by_cases c_205 : z.2.2.2.2.2 = 205
  · refine lv_tableIn (tgt := 89) (off := 85) hx hb dX3_doing_4 (by rw [c_205]; decide) (by rw [c_205]; decide) (by rw [c_205]; rfl) (by decide) ?_
    refine lv_aload_n hx hb dX3_doing_89 rfl (lv_at hl 0 rfl) ?_
    refine lv_iconst (v := 0) hx hb dX3_doing_90 (by decide) ?_
    refine lv_bipush (v := 6) hx hb dX3_doing_91 (by decide) ?_
    refine lv_sipush (v := 212) hx hb dX3_doing_93 (by decide) ?_
    refine lv_bipush (v := 29) hx hb dX3_doing_96 (by decide) ?_
    refine lv_iload_n hx hb dX3_doing_98 rfl (lv_at hl 1 rfl) ?_
    refine t_callV [.int 0, .int 6, .int 212, .int 29, .int x] q0 hC hno hS hl.1 (wX3_two (tp := tp) (f := f) (z := z) hl0 hn hz) hC.2.2.1 ⟨hT, hN⟩ (e_recv hC.1 hT.1 (hC.1.2.2.1 3 _ rfl)) (cwV 5 hts (lw_V q827 q829 qs22 q126 q830) rfl rfl rfl (by decide +kernel) ⟨Nat.le_of_ble_eq_true rfl, Nat.le_of_ble_eq_true rfl⟩) rfl rfl (lv_room (Nat.le_of_ble_eq_true rfl)) ⟨Nat.le_of_ble_eq_true rfl, Nat.le_of_ble_eq_true rfl⟩ (fun q h => Or.inl h) dX3_doing_99 (fun q H1 hX => ?_) (fun o H1 locs1 hPo hs1 hk1 hS1 => ?_)
    · obtain ⟨w, h1, h2⟩ := hX
      exact ⟨w, by unfold kDoi; rw [if_neg c_202]; rw [if_neg c_203]; rw [if_neg c_204]; rw [if_pos c_205]; exact h1, h2⟩
    · obtain ⟨d, z1, q, h1, rfl, h2, h3, h4⟩ := hPo
      exact vx_ret (b_aret hC (Or.inl ⟨_, rfl⟩) hS1 ⟨Nat.le_of_ble_eq_true rfl, Nat.le_of_ble_eq_true rfl⟩ ⟨d, z1, q, by unfold kDoi; rw [if_neg c_202]; rw [if_neg c_203]; rw [if_neg c_204]; rw [if_pos c_205]; exact h1, rfl, h2, h3, h4⟩ dX3_doing_102)
  by_cases c_208 : z.2.2.2.2.2 = 208
  · refine lv_tableIn (tgt := 103) (off := 99) hx hb dX3_doing_4 (by rw [c_208]; decide) (by rw [c_208]; decide) (by rw [c_208]; rfl) (by decide) ?_
    refine b_new (fs := [.int 0, .int 0, .int 0, .int 0]) hC hS in_X16 tyX16 tyX16_ok q831 q832 q155 (ci := 15) rfl (by decide +kernel) (Nat.le_of_ble_eq_true rfl) (Nat.le_of_ble_eq_true rfl) dX3_doing_103 (fun H3 hD3 hs3 hk3 hS3 => ?_)
    have hT3 : TkAt E q0 tp n f z H3 := ⟨hT.1.kept (hk3 q0 hT.1.lt), hT.2.1.kept (hk3 tp hT.2.1.lt), hT.2.2⟩
    refine lv_dup hx hb dX3_doing_106 rfl ?_
    refine lv_aload_n hx hb dX3_doing_107 rfl (lv_at hl 0 rfl) ?_
    refine e_get (k := 7) (D := RX3) hC.1 hT3.1 in_X3 (ci := 3) rfl (by decide) q319 rfl rfl dX3_doing_108 ?_
    refine lv_aload_n hx hb dX3_doing_111 rfl (lv_at hl 0 rfl) ?_
    refine lv_iconst (v := 1) hx hb dX3_doing_112 (by decide) ?_
    refine lv_bipush (v := 60) hx hb dX3_doing_113 (by decide) ?_
    refine t_callV [.int 1, .int 60] q0 hC hno hS3 hl.1 (wX3_number (tp := tp) (f := f) (z := z) hl0 hn hz) hC.2.2.1 ⟨hT3, hN.le (by omega)⟩ (e_recv hC.1 hT3.1 (hC.1.2.2.1 3 _ rfl)) (cwV 2 hts (lw_V q542 q544 qs8 q126 q545) rfl rfl rfl (by decide +kernel) ⟨Nat.le_of_ble_eq_true rfl, Nat.le_of_ble_eq_true rfl⟩) rfl rfl (lv_room (Nat.le_of_ble_eq_true rfl)) ⟨Nat.le_of_ble_eq_true rfl, Nat.le_of_ble_eq_true rfl⟩ (fun q h => Or.inl h) dX3_doing_115 (fun q H4 hX => ?_) (fun o H4 locs4 hPo hs4 hk4 hS4 => ?_)
    · obtain ⟨w, h1, h2⟩ := hX
      exact ⟨w, by unfold kDoi; rw [if_neg c_202]; rw [if_neg c_203]; rw [if_neg c_204]; rw [if_neg c_205]; rw [if_pos c_208]; unfold kOne; rw [h1], h2⟩
    obtain ⟨b, z3, e3, rfl, hT4⟩ := hPo
    have hne : s.heap.size ≠ q0 := fun h => by have := hT.1.lt; omega
    have hD4 := hD3.kept (hk4 s.heap.size (by omega) hne)
    refine lv_iconst (v := -1) hx hb dX3_doing_118 (by decide) ?_
    refine lv_iload_n hx hb dX3_doing_119 rfl (lv_at hl 1 rfl) ?_
    refine b_callIN [.int z.2.2.2.2.2, .int b, .int (-1), .int x] s.heap.size hC hS4 hl.1 (wX16_init (a := s.heap.size)) (fun q hq => by rw [hq]; exact hN _ (by omega)) hD4 ⟨va_cnB 4 hts (lw_meth q835) rfl rfl rfl (nm_Tokens_119 hC.2.1.1) (hts _ q155) (by decide +kernel) ⟨Nat.le_of_ble_eq_true rfl, Nat.le_of_ble_eq_true rfl⟩, rfl, hts _ q834⟩ rfl rfl (lv_room (Nat.le_of_ble_eq_true rfl)) ⟨Nat.le_of_ble_eq_true rfl, Nat.le_of_ble_eq_true rfl⟩ (fun q hq => by rw [hq]; exact Or.inr (by omega)) dX3_doing_120 (fun o H5 locs5 hPo hs5 hk5 hS5 => ?_)
    obtain ⟨rfl, hD5⟩ := hPo
    exact vx_ret (b_aret hC (Or.inl ⟨_, rfl⟩) hS5 ⟨Nat.le_of_ble_eq_true rfl, Nat.le_of_ble_eq_true rfl⟩ ⟨(z.2.2.2.2.2, b, -1, x), z3, s.heap.size, by unfold kDoi; rw [if_neg c_202]; rw [if_neg c_203]; rw [if_neg c_204]; rw [if_neg c_205]; rw [if_pos c_208]; unfold kOne; rw [e3], rfl, by omega, hD5, hT4.1.kept (hk5 q0 hT4.1.lt (fun h => hne h.symm)), hT4.2.1.kept (hk5 tp hT4.2.1.lt (fun h => by have := hT.2.1.lt; have h : tp = s.heap.size := h; omega)), hT4.2.2⟩ dX3_doing_123)
  have go : W p l e rmDoi s m args below meth c s.heap [] 0 0 (tQ (b1 q0) rmDoi below args s (fun o H => ∃ d z1 q, kDoi f n x z = .inr (d, z1) ∧ o = some (.ref q) ∧ s.heap.size ≤ q ∧ va_at E.1 E.2.1 (q, .inr (15, [.int d.1, .int d.2.1, .int d.2.2.1, .int d.2.2.2])) H ∧ TkAt E q0 tp n f z1 H) (fun q H => ∃ w, kDoi f n x z = .inl w ∧ WrAt E q w.1 (nI w.2) H)) (F0 m 124 ls []) := by
    refine b_new (fs := [.int 0, .int 0, .int 0, .int 0]) hC hS in_X16 tyX16 tyX16_ok q831 q832 q155 (ci := 15) rfl (by decide +kernel) (Nat.le_of_ble_eq_true rfl) (Nat.le_of_ble_eq_true rfl) dX3_doing_124 (fun H3 hD3 hs3 hk3 hS3 => ?_)
    have hT3 : TkAt E q0 tp n f z H3 := ⟨hT.1.kept (hk3 q0 hT.1.lt), hT.2.1.kept (hk3 tp hT.2.1.lt), hT.2.2⟩
    refine lv_dup hx hb dX3_doing_127 rfl ?_
    refine lv_aload_n hx hb dX3_doing_128 rfl (lv_at hl 0 rfl) ?_
    refine e_get (k := 7) (D := RX3) hC.1 hT3.1 in_X3 (ci := 3) rfl (by decide) q319 rfl rfl dX3_doing_129 ?_
    refine lv_aload_n hx hb dX3_doing_132 rfl (lv_at hl 0 rfl) ?_
    refine lv_iconst (v := 0) hx hb dX3_doing_133 (by decide) ?_
    refine lv_bipush (v := 29) hx hb dX3_doing_134 (by decide) ?_
    refine t_callV [.int 0, .int 29] q0 hC hno hS3 hl.1 (wX3_number (tp := tp) (f := f) (z := z) hl0 hn hz) hC.2.2.1 ⟨hT3, hN.le (by omega)⟩ (e_recv hC.1 hT3.1 (hC.1.2.2.1 3 _ rfl)) (cwV 2 hts (lw_V q542 q544 qs8 q126 q545) rfl rfl rfl (by decide +kernel) ⟨Nat.le_of_ble_eq_true rfl, Nat.le_of_ble_eq_true rfl⟩) rfl rfl (lv_room (Nat.le_of_ble_eq_true rfl)) ⟨Nat.le_of_ble_eq_true rfl, Nat.le_of_ble_eq_true rfl⟩ (fun q h => Or.inl h) dX3_doing_136 (fun q H4 hX => ?_) (fun o H4 locs4 hPo hs4 hk4 hS4 => ?_)
    · obtain ⟨w, h1, h2⟩ := hX
      exact ⟨w, by unfold kDoi; rw [if_neg c_202]; rw [if_neg c_203]; rw [if_neg c_204]; rw [if_neg c_205]; rw [if_neg c_208]; unfold kOne; rw [h1], h2⟩
    obtain ⟨b, z3, e3, rfl, hT4⟩ := hPo
    have hne : s.heap.size ≠ q0 := fun h => by have := hT.1.lt; omega
    have hD4 := hD3.kept (hk4 s.heap.size (by omega) hne)
    refine lv_iconst (v := -1) hx hb dX3_doing_139 (by decide) ?_
    refine lv_iload_n hx hb dX3_doing_140 rfl (lv_at hl 1 rfl) ?_
    refine b_callIN [.int z.2.2.2.2.2, .int b, .int (-1), .int x] s.heap.size hC hS4 hl.1 (wX16_init (a := s.heap.size)) (fun q hq => by rw [hq]; exact hN _ (by omega)) hD4 ⟨va_cnB 4 hts (lw_meth q835) rfl rfl rfl (nm_Tokens_119 hC.2.1.1) (hts _ q155) (by decide +kernel) ⟨Nat.le_of_ble_eq_true rfl, Nat.le_of_ble_eq_true rfl⟩, rfl, hts _ q834⟩ rfl rfl (lv_room (Nat.le_of_ble_eq_true rfl)) ⟨Nat.le_of_ble_eq_true rfl, Nat.le_of_ble_eq_true rfl⟩ (fun q hq => by rw [hq]; exact Or.inr (by omega)) dX3_doing_141 (fun o H5 locs5 hPo hs5 hk5 hS5 => ?_)
    obtain ⟨rfl, hD5⟩ := hPo
    exact vx_ret (b_aret hC (Or.inl ⟨_, rfl⟩) hS5 ⟨Nat.le_of_ble_eq_true rfl, Nat.le_of_ble_eq_true rfl⟩ ⟨(z.2.2.2.2.2, b, -1, x), z3, s.heap.size, by unfold kDoi; rw [if_neg c_202]; rw [if_neg c_203]; rw [if_neg c_204]; rw [if_neg c_205]; rw [if_neg c_208]; unfold kOne; rw [e3], rfl, by omega, hD5, hT4.1.kept (hk5 q0 hT4.1.lt (fun h => hne h.symm)), hT4.2.1.kept (hk5 tp hT4.2.1.lt (fun h => by have := hT.2.1.lt; have h : tp = s.heap.size := h; omega)), hT4.2.2⟩ dX3_doing_144)
  refine m_tdef (tgt := 124) hx hb dX3_doing_4 (by decide) (fun h1 h2 => ?_) go
  have hne : ∀ v : Int32, ¬ z.2.2.2.2.2 = v → z.2.2.2.2.2.toInt ≠ v.toInt := fun v h h9 => h (Int32.toInt_inj.mp h9)
  have g1 := hne 202 c_202
  have g2 := hne 203 c_203
  have g3 := hne 204 c_204
  have g4 := hne 205 c_205
  have g5 := hne 208 c_208
  generalize z.2.2.2.2.2.toInt = y at h1 h2 g1 g2 g3 g4 g5 ⊢
  have e2 : (202 : Int32).toInt = 202 := rfl
  have e3 : (203 : Int32).toInt = 203 := rfl
  have e4 : (204 : Int32).toInt = 204 := rfl
  have e5 : (205 : Int32).toInt = 205 := rfl
  have e8 : (208 : Int32).toInt = 208 := rfl
  have hy : y = 206 ∨ y = 207 := by omega
  rcases hy with rfl | rfl <;> rfl
