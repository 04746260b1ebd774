set_option maxRecDepth 100000
theorem lw_F {own : String} {idx : Nat} {C : String} {x y : MethodName} {b : ByteArray} {L : Nat} {r : Option FieldType} (h1 : Cond.methodLink own idx x ∈ lw_all) (h2 : Cond.selects C x y ∈ lw_all) (h3 : Cond.instanceMethod y ∈ lw_all) (h4 : Cond.initialized y.cls ∈ lw_all) (h5 : Cond.code y b L r ∈ lw_all) : GoodIn lw_all (va_wsF own idx C x y (ws_ y b L r)) := by
  refine lw_app ?_ (lw_meth h5)
  intro w hw
  simp only [List.mem_cons, List.not_mem_nil, or_false] at hw
  rcases hw with e | e | e | e
  · rw [e]; exact h1
  · rw [e]; exact h2
  · rw [e]; exact h3
  · rw [e]; exact h4
theorem cd_ySum : ySum.cls ≠ "java/lang/invoke/MethodHandle" ∧ ySum.cls ≠ "java/lang/invoke/VarHandle" ∧ (parseMethodDescriptor ySum.desc).map (fun d => d.parameters.length) = some 1 := by decide +kernel
theorem cd_yAsk : yAsk.cls ≠ "java/lang/invoke/MethodHandle" ∧ yAsk.cls ≠ "java/lang/invoke/VarHandle" ∧ (parseMethodDescriptor yAsk.desc).map (fun d => d.parameters.length) = some 1 := by decide +kernel
set_option maxHeartbeats 4000000 in
theorem e_calls (l : Launch) (E : XE) (P : Nat → Prop) (hcl : xCl E) : ∀ d, eCallS l E P d ∧ eCallA l E P d := by
  intro d
  induction d with
  | zero => exact ⟨fun _ _ _ h => h.elim, fun _ _ _ h => h.elim⟩
  | succ d ih =>
    obtain ⟨IS, IA⟩ := ih
    refine ⟨?_, ?_⟩
    · intro p e R s m args below meth c own cc nL rt H locs cells slots Q pc ls rest index count b v u f r hlk hC hV hN hr hls hR1 hR2 hroom hfit hdg kk
      obtain ⟨hp, hN⟩ := hN
      rcases hN with ⟨n, h1, h2⟩ | ⟨n, h1, h2⟩ | ⟨b1, u1, h1, h2, h3⟩ | ⟨b1, u1, h1, h2, h3⟩ | ⟨b1, u1, b2, u2, h1, h2, h3, h4⟩ | ⟨b1, u1, b2, u2, b3, u3, h1, h2, h3, h4, h5⟩ | ⟨b1, u1, l1, ea1, cap1, mc1, g1, l2, ea2, cap2, mc2, g2, n, us, ss, h1, h2, hP, h3, h4, h5, h6, h7⟩
      · refine e_callF (x := ySum) [.ref v] b hC hls (hC.2.1.1 6 _ (hC.2.2.1 6 _ rfl)).2 (wX7_of (P := P) (d := d) hcl n (u f) (h2 f)) ⟨IS, IA, hV, h1⟩ (e_recv hC h1 (hC.2.2.1 6 _ rfl)) (va_cwF 1 hC.1.2.2.2.2.2.2 (lw_F hlk q968 q970 q141 q972) rfl rfl rfl (hC.2.2.2 (RX7, ySum, yX7_of) (List.mem_of_getElem? (i := 0) rfl)) cd_ySum ⟨by show d + 1 + 4 + 1 ≤ R.frames; omega, by show 8 + (2 + 11) + ((d + 1) * 40 + 200) ≤ R.locals; omega⟩) rfl rfl hroom hfit hdg ?_
        show W p l e R s m args below meth c H locs cells slots Q (F0 m (pc + 5) ls (.long (u f) :: rest))
        rw [hr]
        exact kk
      · refine e_callF (x := ySum) [.ref v] b hC hls (hC.2.1.1 12 _ (hC.2.2.1 12 _ rfl)).2 (wX13_of (P := P) (d := d) hcl n f (u f) (h2 f)) ⟨IS, IA, hV, h1⟩ (e_recv hC h1 (hC.2.2.1 12 _ rfl)) (va_cwF 1 hC.1.2.2.2.2.2.2 (lw_F hlk q962 q964 q149 q966) rfl rfl rfl (hC.2.2.2 (RX13, ySum, yX13_of) (List.mem_of_getElem? (i := 1) rfl)) cd_ySum ⟨by show d + 1 + 4 + 1 ≤ R.frames; omega, by show 8 + (2 + 11) + ((d + 1) * 40 + 200) ≤ R.locals; omega⟩) rfl rfl hroom hfit hdg ?_
        show W p l e R s m args below meth c H locs cells slots Q (F0 m (pc + 5) ls (.long (u f) :: rest))
        rw [hr]
        exact kk
      · refine e_callF (x := ySum) [.ref v] b hC hls (hC.2.1.1 14 _ (hC.2.2.1 14 _ rfl)).2 (wX15_of (P := P) (d := d) hcl (u1 f) (u f) (h3 f)) ⟨IS, IA, hV, h1, h2, rfl⟩ (e_recv hC h1 (hC.2.2.1 14 _ rfl)) (va_cwF 1 hC.1.2.2.2.2.2.2 (lw_F hlk q954 q956 q151 q958) rfl rfl rfl (hC.2.2.2 (RX15, ySum, yX15_of) (List.mem_of_getElem? (i := 2) rfl)) cd_ySum ⟨by show d + 1 + 4 + 1 ≤ R.frames; omega, by show 8 + (2 + 11) + ((d + 1) * 40 + 200) ≤ R.locals; omega⟩) rfl rfl hroom hfit hdg ?_
        show W p l e R s m args below meth c H locs cells slots Q (F0 m (pc + 5) ls (.long (u f) :: rest))
        rw [hr]
        exact kk
      · refine e_callF (x := ySum) [.ref v] b hC hls (hC.2.1.1 13 _ (hC.2.2.1 13 _ rfl)).2 (wX14_of (P := P) (d := d) hcl (u1 f) f (u f) (h3 f)) ⟨IS, IA, hV, h1, h2, rfl⟩ (e_recv hC h1 (hC.2.2.1 13 _ rfl)) (va_cwF 1 hC.1.2.2.2.2.2.2 (lw_F hlk q946 q948 q150 q950) rfl rfl rfl (hC.2.2.2 (RX14, ySum, yX14_of) (List.mem_of_getElem? (i := 5) rfl)) cd_ySum ⟨by show d + 1 + 4 + 1 ≤ R.frames; omega, by show 8 + (4 + 11) + ((d + 1) * 40 + 200) ≤ R.locals; omega⟩) rfl rfl hroom hfit hdg ?_
        show W p l e R s m args below meth c H locs cells slots Q (F0 m (pc + 5) ls (.long (u f) :: rest))
        rw [hr]
        exact kk
      · refine e_callF (x := ySum) [.ref v] b hC hls (hC.2.1.1 11 _ (hC.2.2.1 11 _ rfl)).2 (wX12_of (P := P) (d := d) hcl (u1 f) (u2 f) (u f) (h4 f)) ⟨IS, IA, hV, h1, h2, rfl, h3, rfl⟩ (e_recv hC h1 (hC.2.2.1 11 _ rfl)) (va_cwF 1 hC.1.2.2.2.2.2.2 (lw_F hlk q974 q976 q148 q978) rfl rfl rfl (hC.2.2.2 (RX12, ySum, yX12_of) (List.mem_of_getElem? (i := 4) rfl)) cd_ySum ⟨by show d + 1 + 4 + 1 ≤ R.frames; omega, by show 8 + (6 + 11) + ((d + 1) * 40 + 200) ≤ R.locals; omega⟩) rfl rfl hroom hfit hdg ?_
        show W p l e R s m args below meth c H locs cells slots Q (F0 m (pc + 5) ls (.long (u f) :: rest))
        rw [hr]
        exact kk
      · refine e_callF (x := ySum) [.ref v] b hC hls (hC.2.1.1 10 _ (hC.2.2.1 10 _ rfl)).2 (wX11_of (P := P) (d := d) hcl (u1 f).toInt32 (u2 f) (u3 f) (u f) (h5 f)) ⟨IS, IA, hV, h1, h2, rfl, h3, rfl, h4, rfl⟩ (e_recv hC h1 (hC.2.2.1 10 _ rfl)) (va_cwF 1 hC.1.2.2.2.2.2.2 (lw_F hlk q917 q919 q147 q921) rfl rfl rfl (hC.2.2.2 (RX11, ySum, yX11_of) (List.mem_of_getElem? (i := 6) rfl)) cd_ySum ⟨by show d + 1 + 4 + 1 ≤ R.frames; omega, by show 8 + (2 + 11) + ((d + 1) * 40 + 200) ≤ R.locals; omega⟩) rfl rfl hroom hfit hdg ?_
        show W p l e R s m args below meth c H locs cells slots Q (F0 m (pc + 5) ls (.long (u f) :: rest))
        rw [hr]
        exact kk
      · obtain ⟨k, hk⟩ := h7 f
        refine e_callF (x := ySum) [.ref v] b hC hls (hC.2.1.1 5 _ (hC.2.2.1 5 _ rfl)).2 (wX6_of (P := P) (d := d) hcl k (u1 f) n (fun i => us i f) ss (u f) (hk)) ⟨IS, IA, hV, h1, h2, rfl, h3, fun i i1 i2 => by obtain ⟨a1, x, a2, a3⟩ := h4 i i1 i2; exact ⟨a1, x, us i.toNatClampNeg, a2, a3, rfl⟩, h5, fun i i1 i2 => by obtain ⟨a1, x, a2, a3, a4⟩ := h6 i i1 i2; exact ⟨a1, x, a2, a4⟩⟩ (e_recv hC h1 (hC.2.2.1 5 _ rfl)) (va_cwF 1 hC.1.2.2.2.2.2.2 (lw_F hlk q909 q911 q139 q913) rfl rfl rfl (hC.2.2.2 (RX6, ySum, yX6_of) (List.mem_of_getElem? (i := 3) rfl)) cd_ySum ⟨by show d + 1 + 4 + 1 ≤ R.frames; omega, by show 8 + (10 + 11) + ((d + 1) * 40 + 200) ≤ R.locals; omega⟩) rfl rfl hroom hfit hdg ?_
        show W p l e R s m args below meth c H locs cells slots Q (F0 m (pc + 5) ls (.long (u f) :: rest))
        rw [hr]
        exact kk
    · intro p e R s m args below meth c own cc nL rt H locs cells slots Q pc ls rest index count b v u f r hlk hC hV hN hr hls hR1 hR2 hroom hfit hdg kk
      obtain ⟨hp, hN⟩ := hN
      rcases hN with ⟨n, b1, u1, b2, u2, h1, h2, h3, h4⟩ | ⟨b1, u1, h1, h2, h3⟩ | ⟨an, l1, ea1, cap1, mc1, g1, n, us, h1, hP, h3, h4, h5⟩
      · refine e_callF (x := yAsk) [.ref v] b hC hls (hC.2.1.1 8 _ (hC.2.2.1 8 _ rfl)).2 (wX9_is (P := P) (d := d) hcl n (u1 f) (u2 f) (u f).toInt32 (h4 f)) ⟨IS, IA, hV, h1, h2, rfl, h3, rfl⟩ (e_recv hC h1 (hC.2.2.1 8 _ rfl)) (va_cwF 1 hC.1.2.2.2.2.2.2 (lw_F hlk q938 q940 q143 q942) rfl rfl rfl (hC.2.2.2 (RX9, yAsk, yX9_is) (List.mem_of_getElem? (i := 7) rfl)) cd_yAsk ⟨by show d + 1 + 4 + 1 ≤ R.frames; omega, by show 8 + (4 + 11) + ((d + 1) * 40 + 200) ≤ R.locals; omega⟩) rfl rfl hroom hfit hdg ?_
        show W p l e R s m args below meth c H locs cells slots Q (F0 m (pc + 5) ls (.int (u f).toInt32 :: rest))
        rw [hr]
        exact kk
      · refine e_callF (x := yAsk) [.ref v] b hC hls (hC.2.1.1 7 _ (hC.2.2.1 7 _ rfl)).2 (wX8_is (P := P) (d := d) hcl (u1 f).toInt32 (u f).toInt32 (h3 f)) ⟨IS, IA, hV, h1, h2, rfl⟩ (e_recv hC h1 (hC.2.2.1 7 _ rfl)) (va_cwF 1 hC.1.2.2.2.2.2.2 (lw_F hlk q983 q985 q142 q987) rfl rfl rfl (hC.2.2.2 (RX8, yAsk, yX8_is) (List.mem_of_getElem? (i := 8) rfl)) cd_yAsk ⟨by show d + 1 + 4 + 1 ≤ R.frames; omega, by show 8 + (2 + 11) + ((d + 1) * 40 + 200) ≤ R.locals; omega⟩) rfl rfl hroom hfit hdg ?_
        show W p l e R s m args below meth c H locs cells slots Q (F0 m (pc + 5) ls (.int (u f).toInt32 :: rest))
        rw [hr]
        exact kk
      · obtain ⟨k, hk⟩ := h5 f
        refine e_callF (x := yAsk) [.ref v] b hC hls (hC.2.1.1 9 _ (hC.2.2.1 9 _ rfl)).2 (wX10_is (P := P) (d := d) hcl k an n (fun i => (us i f).toInt32) (u f).toInt32 (hk)) ⟨IS, IA, hV, h1, h3, fun i i1 i2 => by obtain ⟨a1, x, a2, a3⟩ := h4 i i1 i2; exact ⟨a1, x, us i.toNatClampNeg, a2, a3, rfl⟩⟩ (e_recv hC h1 (hC.2.2.1 9 _ rfl)) (va_cwF 1 hC.1.2.2.2.2.2.2 (lw_F hlk q927 q929 q146 q931) rfl rfl rfl (hC.2.2.2 (RX10, yAsk, yX10_is) (List.mem_of_getElem? (i := 9) rfl)) cd_yAsk ⟨by show d + 1 + 4 + 1 ≤ R.frames; omega, by show 8 + (4 + 11) + ((d + 1) * 40 + 200) ≤ R.locals; omega⟩) rfl rfl hroom hfit hdg ?_
        show W p l e R s m args below meth c H locs cells slots Q (F0 m (pc + 5) ls (.int (u f).toInt32 :: rest))
        rw [hr]
        exact kk
