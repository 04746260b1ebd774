set_option maxRecDepth 100000
noncomputable def fX0_could_B33 (k : Nat) (v1 : Int32) (v2 : Int32) (w : XS) (a : Int32 × Int32 × Int32 × Int32) : Option ((Int32 × Int32 × Int32 × Int32) ⊕ (Int32 × Int32 × Int32)) := if (4096 : Int32) ≤ a.2.2.2 then (some (.inr (a.1, a.2.1, a.2.2.1))) else ((fX0_canBe k w a.2.2.2 v1).bind fun r_6 => if r_6 = 0 then (some (.inl (a.1, a.2.1, a.2.2.1, (a.2.2.2 + (1 : Int32))))) else (some (.inl ((a.1 + (1 : Int32)), (a.2.1 &&& a.2.2.2), (a.2.2.1 ||| a.2.2.2), (a.2.2.2 + (1 : Int32))))))
set_option maxHeartbeats 1000000 in
theorem wX0_could_B33 {p : Program} {l : Launch} {e : Env} {s : State} {m : MethodId} {args : Array Value} {below : List Frame} {meth : Method} {c : Code} {E : XE} {Q : State → Prop} (k : Nat) (v1 : Int32) (v2 : Int32) (w : XS) (hC : xC E RX0 cX0_could 7 (some .int) p s m args meth c) (a : Int32 × Int32 × Int32 × Int32) (y : (Int32 × Int32 × Int32 × Int32) ⊕ (Int32 × Int32 × Int32)) (hE : fX0_could_B33 k v1 v2 w a = some y) (hc : ∀ a : Int32 × Int32 × Int32 × Int32, y = .inl a → xW p l e rmX0_could s m args below meth c E 7 Q 0 0 33 [(0, .ref (E.2.2.1 0)), (1, .int v1), (2, .int v2), (3, .int a.1), (4, .int a.2.1), (5, .int a.2.2.1), (6, .int a.2.2.2)] [] w) (hx1 : ∀ b : Int32 × Int32 × Int32, y = .inr b → xW p l e rmX0_could s m args below meth c E 7 Q 0 0 77 [(2, .int v2), (3, .int b.1), (4, .int b.2.1), (5, .int b.2.2)] [] w) : xW p l e rmX0_could s m args below meth c E 7 Q 0 0 33 [(0, .ref (E.2.2.1 0)), (1, .int v1), (2, .int v2), (3, .int a.1), (4, .int a.2.1), (5, .int a.2.2.1), (6, .int a.2.2.2)] [] w := by
  intro H locs cells slots ls hP hS hB hl
  have hx := hC.1
  have hb := hC.2.1
  have hown := hC.2.2.2.2.2.1
  have hts := hC.2.2.2.2.2.2.1
  unfold fX0_could_B33 at hE
  refine lv_iload hx hb dX0_could_33 (lv_at hl 6 rfl) ?_
  refine lv_sipush (v := 4096) hx hb dX0_could_35 (by decide) ?_
  refine lv_icmp_ge (tgt := 77) hx hb dX0_could_38 (by decide) (fun c_5 => ?_) (fun c_5 => ?_)
  · have hE := ip c_5 hE
    exact hx1 _ (Option.some.inj hE).symm H locs cells slots ls hP hS hB (lv_sub hl [2, 3, 4, 5] rfl)
  · have hE := iq c_5 hE
    refine lv_aload_n hx hb dX0_could_41 rfl (lv_at hl 0 rfl) ?_
    refine lv_iload hx hb dX0_could_42 (lv_at hl 6 rfl) ?_
    refine lv_iload_n hx hb dX0_could_44 rfl (lv_at hl 1 rfl) ?_
    obtain ⟨r_6, h_6, hE⟩ := ob hE
    refine x_callV (rc1 := _) (rs1 := _) [.int a.2.2.2, .int v1] (E.2.2.1 0) hC hP hS hB hl.1 (wX0_canBe k w a.2.2.2 v1 r_6 h_6) (xC.c0 hC) (xw_get E _ (k := 0) (by decide)) (cwV 2 hts lkX0_334 rfl rfl rfl cdX0_canBe ⟨Nat.le_of_ble_eq_true rfl, Nat.le_of_ble_eq_true rfl⟩) rfl rfl (lv_room (Nat.le_of_ble_eq_true rfl)) ⟨Nat.le_of_eq (Nat.zero_add _), Nat.le_of_eq (Nat.zero_add _)⟩ dX0_could_45 (fun H locs cells slots hP hS hB => ?_)
    show W p l e _ s m args below meth c H locs cells slots _ (F0 m _ ls (.int r_6 :: []))
    refine lv_if_ne (tgt := 54) hx hb dX0_could_48 (by decide) (fun c_7 => ?_) (fun c_7 => ?_)
    · have hE := iq c_7 hE
      refine lv_iinc (v := (a.1 + (1 : Int32))) (lv' := [(3, .int (a.1 + (1 : Int32))), (0, .ref (E.2.2.1 0)), (1, .int v1), (2, .int v2), (4, .int a.2.1), (5, .int a.2.2.1), (6, .int a.2.2.2)]) hx hb dX0_could_54 hl (k := 3) rfl rfl (Nat.le_of_ble_eq_true rfl) rfl (fun ls hl => ?_)
      refine lv_iload hx hb dX0_could_57 (lv_at hl 4 rfl) ?_
      refine lv_iload hx hb dX0_could_59 (lv_at hl 6 rfl) ?_
      refine lv_iand hx hb dX0_could_61 ?_
      refine lv_istore (lv' := [(4, .int (a.2.1 &&& a.2.2.2)), (3, .int (a.1 + (1 : Int32))), (0, .ref (E.2.2.1 0)), (1, .int v1), (2, .int v2), (5, .int a.2.2.1), (6, .int a.2.2.2)]) hx hb dX0_could_62 hl (Nat.le_of_ble_eq_true rfl) rfl (fun ls hl => ?_)
      refine lv_iload hx hb dX0_could_64 (lv_at hl 5 rfl) ?_
      refine lv_iload hx hb dX0_could_66 (lv_at hl 6 rfl) ?_
      refine lv_ior hx hb dX0_could_68 ?_
      refine lv_istore (lv' := [(5, .int (a.2.2.1 ||| a.2.2.2)), (4, .int (a.2.1 &&& a.2.2.2)), (3, .int (a.1 + (1 : Int32))), (0, .ref (E.2.2.1 0)), (1, .int v1), (2, .int v2), (6, .int a.2.2.2)]) hx hb dX0_could_69 hl (Nat.le_of_ble_eq_true rfl) rfl (fun ls hl => ?_)
      refine lv_iinc (v := (a.2.2.2 + (1 : Int32))) (lv' := [(6, .int (a.2.2.2 + (1 : Int32))), (5, .int (a.2.2.1 ||| a.2.2.2)), (4, .int (a.2.1 &&& a.2.2.2)), (3, .int (a.1 + (1 : Int32))), (0, .ref (E.2.2.1 0)), (1, .int v1), (2, .int v2)]) hx hb dX0_could_71 hl (k := 6) rfl rfl (Nat.le_of_ble_eq_true rfl) rfl (fun ls hl => ?_)
      refine lv_goto (tgt := 33) hx hb dX0_could_74 (by decide) ?_
      exact hc _ (Option.some.inj hE).symm H locs cells slots ls hP hS hB (lv_sub hl [4, 5, 6, 3, 2, 1, 0] rfl)
    · have hE := ip c_7 hE
      refine lv_goto (tgt := 71) hx hb dX0_could_51 (by decide) ?_
      refine lv_iinc (v := (a.2.2.2 + (1 : Int32))) (lv' := [(6, .int (a.2.2.2 + (1 : Int32))), (0, .ref (E.2.2.1 0)), (1, .int v1), (2, .int v2), (3, .int a.1), (4, .int a.2.1), (5, .int a.2.2.1)]) hx hb dX0_could_71 hl (k := 6) rfl rfl (Nat.le_of_ble_eq_true rfl) rfl (fun ls hl => ?_)
      refine lv_goto (tgt := 33) hx hb dX0_could_74 (by decide) ?_
      exact hc _ (Option.some.inj hE).symm H locs cells slots ls hP hS hB (lv_sub hl [1, 2, 3, 4, 5, 6, 0] rfl)
noncomputable def fX0_could (k : Nat) (z : XS) (x1 : Int32) (x2 : Int32) : Option Int32 := (fX0_in x1 (0 : Int32) (2 : Int32)).bind fun r_1 => if r_1 = 0 then (some (-1 : Int32)) else ((fX0_in x2 (0 : Int32) (2 : Int32)).bind fun r_3 => if r_3 = 0 then (some (-1 : Int32)) else ((lpo (fX0_could_B33 k x1 x2 z) k ((0 : Int32), (4095 : Int32), (0 : Int32), (0 : Int32))).bind fun x_8 => if x2 = 0 then (some x_8.1) else (if x_8.1 = 0 then (some (-1 : Int32)) else (if x2 = (1 : Int32) then (some x_8.2.1) else (some ((4095 : Int32) &&& (x_8.2.2 ^^^ (-1 : Int32))))))))
set_option maxHeartbeats 1000000 in
theorem wX0_could {l : Launch} {E : XE} (k : Nat) (z : XS) (x1 : Int32) (x2 : Int32) (y : Int32) (hE : fX0_could k z x1 x2 = some y) : xM l yX0_could (ws_ yX0_could cX0_could 7 (some .int)) rmX0_could E z [.ref (E.2.2.1 0), .int x1, .int x2] (some (.int y)) z := by
  refine x_met (own := RX0) (by decide) rfl (Nat.le_of_ble_eq_true rfl) (fun p e s m args below meth c hC => ?_)
  intro H locs cells slots ls hP hS hB hl
  have hx := hC.1
  have hb := hC.2.1
  have hown := hC.2.2.2.2.2.1
  have hts := hC.2.2.2.2.2.2.1
  have hl : lv_has ls 7 [(0, .ref (E.2.2.1 0)), (1, .int x1), (2, .int x2)] := hl
  unfold fX0_could at hE
  refine lv_iload_n hx hb dX0_could_0 rfl (lv_at hl 1 rfl) ?_
  refine lv_iconst (v := 0) hx hb dX0_could_1 (by decide) ?_
  refine lv_iconst (v := 2) hx hb dX0_could_2 (by decide) ?_
  obtain ⟨r_1, h_1, hE⟩ := ob hE
  refine s_calli [.int x1, .int (0 : Int32), .int (2 : Int32)] hC.sC hl.1 (wX0_in x1 (0 : Int32) (2 : Int32) r_1 h_1) (va_cwS 3 hts lkX0_58 rfl rfl rfl cdX0_in ⟨Nat.le_of_ble_eq_true rfl, Nat.le_of_ble_eq_true rfl⟩) rfl rfl (lv_room (Nat.le_of_ble_eq_true rfl)) (hB0 hB) dX0_could_3 ?_
  refine lv_if_eq (tgt := 18) hx hb dX0_could_6 (by decide) (fun c_2 => ?_) (fun c_2 => ?_)
  · have hE := ip c_2 hE
    refine lv_iconst (v := -1) hx hb dX0_could_18 (by decide) ?_
    obtain rfl := Option.some.inj hE
    exact x_iret hC hP hS hB dX0_could_19
  · have hE := iq c_2 hE
    refine lv_iload_n hx hb dX0_could_9 rfl (lv_at hl 2 rfl) ?_
    refine lv_iconst (v := 0) hx hb dX0_could_10 (by decide) ?_
    refine lv_iconst (v := 2) hx hb dX0_could_11 (by decide) ?_
    obtain ⟨r_3, h_3, hE⟩ := ob hE
    refine s_calli [.int x2, .int (0 : Int32), .int (2 : Int32)] hC.sC hl.1 (wX0_in x2 (0 : Int32) (2 : Int32) r_3 h_3) (va_cwS 3 hts lkX0_58 rfl rfl rfl cdX0_in ⟨Nat.le_of_ble_eq_true rfl, Nat.le_of_ble_eq_true rfl⟩) rfl rfl (lv_room (Nat.le_of_ble_eq_true rfl)) (hB0 hB) dX0_could_12 ?_
    refine lv_if_ne (tgt := 20) hx hb dX0_could_15 (by decide) (fun c_4 => ?_) (fun c_4 => ?_)
    · have hE := iq c_4 hE
      refine lv_iconst (v := 0) hx hb dX0_could_20 (by decide) ?_
      refine lv_istore_n (lv' := [(3, .int (0 : Int32)), (0, .ref (E.2.2.1 0)), (1, .int x1), (2, .int x2)]) hx hb dX0_could_21 rfl hl (Nat.le_of_ble_eq_true rfl) rfl (fun ls hl => ?_)
      refine lv_sipush (v := 4095) hx hb dX0_could_22 (by decide) ?_
      refine lv_istore (lv' := [(4, .int (4095 : Int32)), (3, .int (0 : Int32)), (0, .ref (E.2.2.1 0)), (1, .int x1), (2, .int x2)]) hx hb dX0_could_25 hl (Nat.le_of_ble_eq_true rfl) rfl (fun ls hl => ?_)
      refine lv_iconst (v := 0) hx hb dX0_could_27 (by decide) ?_
      refine lv_istore (lv' := [(5, .int (0 : Int32)), (4, .int (4095 : Int32)), (3, .int (0 : Int32)), (0, .ref (E.2.2.1 0)), (1, .int x1), (2, .int x2)]) hx hb dX0_could_28 hl (Nat.le_of_ble_eq_true rfl) rfl (fun ls hl => ?_)
      refine lv_iconst (v := 0) hx hb dX0_could_30 (by decide) ?_
      refine lv_istore (lv' := [(6, .int (0 : Int32)), (5, .int (0 : Int32)), (4, .int (4095 : Int32)), (3, .int (0 : Int32)), (0, .ref (E.2.2.1 0)), (1, .int x1), (2, .int x2)]) hx hb dX0_could_31 hl (Nat.le_of_ble_eq_true rfl) rfl (fun ls hl => ?_)
      obtain ⟨x_8, h_8, hE⟩ := ob hE
      refine lpo_walk (fun p_8 : Int32 × Int32 × Int32 × Int32 => xW p l e rmX0_could s m args below meth c E 7 (xQ E rmX0_could below args s (some (.int y)) z) 0 0 33 [(0, .ref (E.2.2.1 0)), (1, .int x1), (2, .int x2), (3, .int p_8.1), (4, .int p_8.2.1), (5, .int p_8.2.2.1), (6, .int p_8.2.2.2)] [] z) (fun q_8 : Int32 × Int32 × Int32 => xW p l e rmX0_could s m args below meth c E 7 (xQ E rmX0_could below args s (some (.int y)) z) 0 0 77 [(2, .int x2), (3, .int q_8.1), (4, .int q_8.2.1), (5, .int q_8.2.2)] [] z) (fun a_8 y_8 hB_8 hc_8 hx_8 => wX0_could_B33 k x1 x2 z hC a_8 y_8 hB_8 hc_8 hx_8) _ _ x_8 h_8 ?_ H locs cells slots ls hP hS hB (lv_sub hl [4, 5, 6, 3, 2, 1, 0] rfl)
      intro H locs cells slots ls hP hS hB hl
      refine lv_iload_n hx hb dX0_could_77 rfl (lv_at hl 0 rfl) ?_
      refine lv_if_ne (tgt := 85) hx hb dX0_could_78 (by decide) (fun c_9 => ?_) (fun c_9 => ?_)
      · have hE := iq c_9 hE
        refine lv_iload_n hx hb dX0_could_85 rfl (lv_at hl 1 rfl) ?_
        refine lv_if_ne (tgt := 93) hx hb dX0_could_86 (by decide) (fun c_10 => ?_) (fun c_10 => ?_)
        · have hE := iq c_10 hE
          refine lv_iload_n hx hb dX0_could_93 rfl (lv_at hl 0 rfl) ?_
          refine lv_iconst (v := 1) hx hb dX0_could_94 (by decide) ?_
          refine lv_icmp_ne (tgt := 103) hx hb dX0_could_95 (by decide) (fun c_11 => ?_) (fun c_11 => ?_)
          · have hE := iq c_11 hE
            refine lv_sipush (v := 4095) hx hb dX0_could_103 (by decide) ?_
            refine lv_iload hx hb dX0_could_106 (lv_at hl 3 rfl) ?_
            refine lv_iconst (v := -1) hx hb dX0_could_108 (by decide) ?_
            refine lv_ixor hx hb dX0_could_109 ?_
            refine lv_iand hx hb dX0_could_110 ?_
            obtain rfl := Option.some.inj hE
            exact x_iret hC hP hS hB dX0_could_111
          · have hE := ip c_11 hE
            refine lv_iload hx hb dX0_could_98 (lv_at hl 2 rfl) ?_
            refine lv_goto (tgt := 111) hx hb dX0_could_100 (by decide) ?_
            obtain rfl := Option.some.inj hE
            exact x_iret hC hP hS hB dX0_could_111
        · have hE := ip c_10 hE
          refine lv_iconst (v := -1) hx hb dX0_could_89 (by decide) ?_
          refine lv_goto (tgt := 111) hx hb dX0_could_90 (by decide) ?_
          obtain rfl := Option.some.inj hE
          exact x_iret hC hP hS hB dX0_could_111
      · have hE := ip c_9 hE
        refine lv_iload_n hx hb dX0_could_81 rfl (lv_at hl 1 rfl) ?_
        refine lv_goto (tgt := 111) hx hb dX0_could_82 (by decide) ?_
        obtain rfl := Option.some.inj hE
        exact x_iret hC hP hS hB dX0_could_111
    · have hE := ip c_4 hE
      refine lv_iconst (v := -1) hx hb dX0_could_18 (by decide) ?_
      obtain rfl := Option.some.inj hE
      exact x_iret hC hP hS hB dX0_could_19
noncomputable def fX0_ask_T30 (k : Nat) (v1 : Int32) (w : XS) (a : Int32 × Int32 × Int32) : Option (Option Int32) := if (12 : Int32) ≤ a.2.2 then (some (some a.1)) else (some none)
set_option maxHeartbeats 1000000 in
theorem wX0_ask_T30 {p : Program} {l : Launch} {e : Env} {s : State} {m : MethodId} {args : Array Value} {below : List Frame} {meth : Method} {c : Code} {E : XE} {Q : State → Prop} (k : Nat) (v1 : Int32) (w : XS) (rcv rsv rec res : Nat) (hr : rec ≤ rcv ∧ res ≤ rsv) (hC : xC E RX0 cX0_ask 7 (some .int) p s m args meth c) (a : Int32 × Int32 × Int32) (y : Option Int32) (hE : fX0_ask_T30 k v1 w a = some y) (hc : y = none → xW p l e rmX0_ask s m args below meth c E 7 Q rcv rsv 37 [(0, .ref (E.2.2.1 0)), (1, .int v1), (2, .int a.1), (3, .int a.2.1), (4, .int a.2.2)] [] w) (hx1 : ∀ b : Int32, y = some b → xW p l e rmX0_ask s m args below meth c E 7 Q rec res 94 [(2, .int b)] [] w) : xW p l e rmX0_ask s m args below meth c E 7 Q rcv rsv 30 [(0, .ref (E.2.2.1 0)), (1, .int v1), (2, .int a.1), (3, .int a.2.1), (4, .int a.2.2)] [] w := by
  intro H locs cells slots ls hP hS hB hl
  have hx := hC.1
  have hb := hC.2.1
  have hown := hC.2.2.2.2.2.1
  have hts := hC.2.2.2.2.2.2.1
  unfold fX0_ask_T30 at hE
  refine lv_iload hx hb dX0_ask_30 (lv_at hl 4 rfl) ?_
  refine lv_bipush (v := 12) hx hb dX0_ask_32 (by decide) ?_
  refine lv_icmp_ge (tgt := 94) hx hb dX0_ask_34 (by decide) (fun c_5 => ?_) (fun c_5 => ?_)
  · have hE := ip c_5 hE
    exact hx1 _ (Option.some.inj hE).symm H locs cells slots ls hP hS (hBr hB hr) (lv_sub hl [2] rfl)
  · have hE := iq c_5 hE
    exact hc (Option.some.inj hE).symm H locs cells slots ls hP hS hB hl
noncomputable def fX0_ask_T40 (k : Nat) (v1 : Int32) (v4 : Int32) (w : XS) (a : Int32 × Int32 × Int32) : Option (Option (Int32 × Int32)) := if ((12 : Int32) - v4) < a.2.2 then (some (some (a.1, a.2.1))) else (some none)
set_option maxHeartbeats 1000000 in
theorem wX0_ask_T40 {p : Program} {l : Launch} {e : Env} {s : State} {m : MethodId} {args : Array Value} {below : List Frame} {meth : Method} {c : Code} {E : XE} {Q : State → Prop} (k : Nat) (v1 : Int32) (v4 : Int32) (w : XS) (rcv rsv rec res : Nat) (hr : rec ≤ rcv ∧ res ≤ rsv) (hC : xC E RX0 cX0_ask 7 (some .int) p s m args meth c) (a : Int32 × Int32 × Int32) (y : Option (Int32 × Int32)) (hE : fX0_ask_T40 k v1 v4 w a = some y) (hc : y = none → xW p l e rmX0_ask s m args below meth c E 7 Q rcv rsv 50 [(0, .ref (E.2.2.1 0)), (1, .int v1), (2, .int a.1), (3, .int a.2.1), (4, .int v4), (5, .int a.2.2)] [] w) (hx1 : ∀ b : Int32 × Int32, y = some b → xW p l e rmX0_ask s m args below meth c E 7 Q rec res 88 [(0, .ref (E.2.2.1 0)), (1, .int v1), (2, .int b.1), (3, .int b.2), (4, .int v4)] [] w) : xW p l e rmX0_ask s m args below meth c E 7 Q rcv rsv 40 [(0, .ref (E.2.2.1 0)), (1, .int v1), (2, .int a.1), (3, .int a.2.1), (4, .int v4), (5, .int a.2.2)] [] w := by
  intro H locs cells slots ls hP hS hB hl
  have hx := hC.1
  have hb := hC.2.1
  have hown := hC.2.2.2.2.2.1
  have hts := hC.2.2.2.2.2.2.1
  unfold fX0_ask_T40 at hE
  refine lv_iload hx hb dX0_ask_40 (lv_at hl 5 rfl) ?_
  refine lv_bipush (v := 12) hx hb dX0_ask_42 (by decide) ?_
  refine lv_iload hx hb dX0_ask_44 (lv_at hl 4 rfl) ?_
  refine lv_isub hx hb dX0_ask_46 ?_
  refine lv_icmp_gt (tgt := 88) hx hb dX0_ask_47 (by decide) (fun c_6 => ?_) (fun c_6 => ?_)
  · have hE := ip c_6 hE
    exact hx1 _ (Option.some.inj hE).symm H locs cells slots ls hP hS (hBr hB hr) (lv_sub hl [0, 1, 2, 3, 4] rfl)
  · have hE := iq c_6 hE
    exact hc (Option.some.inj hE).symm H locs cells slots ls hP hS hB hl
noncomputable def fX0_ask_B40 (k : Nat) (v1 : Int32) (v4 : Int32) (w : XS) (a : Int32 × Int32 × Int32) : Option ((Int32 × Int32 × Int32) ⊕ (Int32 × Int32)) := (fX0_leftBy k w v1 v4 a.2.2).bind fun r_7 => if r_7 < a.2.1 then (some (.inl ((((100 : Int32) * v4) + a.2.2), r_7, (a.2.2 + (1 : Int32))))) else (some (.inl (a.1, a.2.1, (a.2.2 + (1 : Int32)))))
set_option maxHeartbeats 1000000 in
theorem wX0_ask_B40 {p : Program} {l : Launch} {e : Env} {s : State} {m : MethodId} {args : Array Value} {below : List Frame} {meth : Method} {c : Code} {E : XE} {Q : State → Prop} (k : Nat) (nc ns : Nat) (v1 : Int32) (v4 : Int32) (w : XS) (rec res : Nat) (hr : rec ≤ nc ∧ res ≤ ns) (hC : xC E RX0 cX0_ask 7 (some .int) p s m args meth c) (a : Int32 × Int32 × Int32) (y : (Int32 × Int32 × Int32) ⊕ (Int32 × Int32)) (hE : fX0_ask_B40 k v1 v4 w a = some y) (hc : ∀ a : Int32 × Int32 × Int32, y = .inl a → xW p l e rmX0_ask s m args below meth c E 7 Q (0 + nc) (0 + ns) 40 [(0, .ref (E.2.2.1 0)), (1, .int v1), (2, .int a.1), (3, .int a.2.1), (4, .int v4), (5, .int a.2.2)] [] w) (hx1 : ∀ b : Int32 × Int32, y = .inr b → xW p l e rmX0_ask s m args below meth c E 7 Q rec res 88 [(0, .ref (E.2.2.1 0)), (1, .int v1), (2, .int b.1), (3, .int b.2), (4, .int v4)] [] w) : xW p l e rmX0_ask s m args below meth c E 7 Q (1 + nc) (13 + ns) 50 [(0, .ref (E.2.2.1 0)), (1, .int v1), (2, .int a.1), (3, .int a.2.1), (4, .int v4), (5, .int a.2.2)] [] w := by
  intro H locs cells slots ls hP hS hB hl
  have hx := hC.1
  have hb := hC.2.1
  have hown := hC.2.2.2.2.2.1
  have hts := hC.2.2.2.2.2.2.1
  unfold fX0_ask_B40 at hE
  refine lv_aload_n hx hb dX0_ask_50 rfl (lv_at hl 0 rfl) ?_
  refine lv_iload_n hx hb dX0_ask_51 rfl (lv_at hl 1 rfl) ?_
  refine lv_iload hx hb dX0_ask_52 (lv_at hl 4 rfl) ?_
  refine lv_iload hx hb dX0_ask_54 (lv_at hl 5 rfl) ?_
  obtain ⟨r_7, h_7, hE⟩ := ob hE
  refine x_callV (rc1 := 0 + nc) (rs1 := 0 + ns) [.int v1, .int v4, .int a.2.2] (E.2.2.1 0) hC hP hS hB hl.1 (wX0_leftBy k w v1 v4 a.2.2 r_7 h_7) (xC.c0 hC) (xw_get E _ (k := 0) (by decide)) (cwV 3 hts lkX0_343 rfl rfl rfl cdX0_leftBy ⟨Nat.le_of_ble_eq_true rfl, Nat.le_of_ble_eq_true rfl⟩) rfl rfl (lv_room (Nat.le_of_ble_eq_true rfl)) ⟨hrm rfl, hrm rfl⟩ dX0_ask_56 (fun H locs cells slots hP hS hB => ?_)
  show W p l e _ s m args below meth c H locs cells slots _ (F0 m _ ls (.int r_7 :: []))
  refine lv_istore (lv' := [(6, .int r_7), (0, .ref (E.2.2.1 0)), (1, .int v1), (2, .int a.1), (3, .int a.2.1), (4, .int v4), (5, .int a.2.2)]) hx hb dX0_ask_59 hl (Nat.le_of_ble_eq_true rfl) rfl (fun ls hl => ?_)
  refine lv_iload hx hb dX0_ask_61 (lv_at hl 0 rfl) ?_
  refine lv_iload_n hx hb dX0_ask_63 rfl (lv_at hl 4 rfl) ?_
  refine lv_icmp_lt (tgt := 70) hx hb dX0_ask_64 (by decide) (fun c_8 => ?_) (fun c_8 => ?_)
  · have hE := ip c_8 hE
    refine lv_bipush (v := 100) hx hb dX0_ask_70 (by decide) ?_
    refine lv_iload hx hb dX0_ask_72 (lv_at hl 5 rfl) ?_
    refine lv_imul hx hb dX0_ask_74 ?_
    refine lv_iload hx hb dX0_ask_75 (lv_at hl 6 rfl) ?_
    refine lv_iadd hx hb dX0_ask_77 ?_
    refine lv_istore_n (lv' := [(2, .int (((100 : Int32) * v4) + a.2.2)), (6, .int r_7), (0, .ref (E.2.2.1 0)), (1, .int v1), (3, .int a.2.1), (4, .int v4), (5, .int a.2.2)]) hx hb dX0_ask_78 rfl hl (Nat.le_of_ble_eq_true rfl) rfl (fun ls hl => ?_)
    refine lv_iload hx hb dX0_ask_79 (lv_at hl 1 rfl) ?_
    refine lv_istore_n (lv' := [(3, .int r_7), (2, .int (((100 : Int32) * v4) + a.2.2)), (6, .int r_7), (0, .ref (E.2.2.1 0)), (1, .int v1), (4, .int v4), (5, .int a.2.2)]) hx hb dX0_ask_81 rfl hl (Nat.le_of_ble_eq_true rfl) rfl (fun ls hl => ?_)
    refine lv_iinc (v := (a.2.2 + (1 : Int32))) (lv' := [(5, .int (a.2.2 + (1 : Int32))), (3, .int r_7), (2, .int (((100 : Int32) * v4) + a.2.2)), (6, .int r_7), (0, .ref (E.2.2.1 0)), (1, .int v1), (4, .int v4)]) hx hb dX0_ask_82 hl (k := 6) rfl rfl (Nat.le_of_ble_eq_true rfl) rfl (fun ls hl => ?_)
    refine lv_goto (tgt := 40) hx hb dX0_ask_85 (by decide) ?_
    exact hc _ (Option.some.inj hE).symm H locs cells slots ls hP hS hB (lv_sub hl [4, 5, 2, 1, 6, 0] rfl)
  · have hE := iq c_8 hE
    refine lv_goto (tgt := 82) hx hb dX0_ask_67 (by decide) ?_
    refine lv_iinc (v := (a.2.2 + (1 : Int32))) (lv' := [(5, .int (a.2.2 + (1 : Int32))), (6, .int r_7), (0, .ref (E.2.2.1 0)), (1, .int v1), (2, .int a.1), (3, .int a.2.1), (4, .int v4)]) hx hb dX0_ask_82 hl (k := 6) rfl rfl (Nat.le_of_ble_eq_true rfl) rfl (fun ls hl => ?_)
    refine lv_goto (tgt := 40) hx hb dX0_ask_85 (by decide) ?_
    exact hc _ (Option.some.inj hE).symm H locs cells slots ls hP hS hB (lv_sub hl [2, 3, 4, 5, 6, 0] rfl)
noncomputable def fX0_ask_B30 (k : Nat) (v1 : Int32) (w : XS) (a : Int32 × Int32 × Int32) : Option ((Int32 × Int32 × Int32) ⊕ Int32) := (lpw (fX0_ask_T40 k v1 a.2.2 w) (fX0_ask_B40 k v1 a.2.2 w) 12 (a.1, a.2.1, (1 : Int32))).bind fun x_9 => some (.inl (x_9.1, x_9.2, (a.2.2 + (1 : Int32))))
set_option maxHeartbeats 1000000 in
theorem wX0_ask_B30 {p : Program} {l : Launch} {e : Env} {s : State} {m : MethodId} {args : Array Value} {below : List Frame} {meth : Method} {c : Code} {E : XE} {Q : State → Prop} (k : Nat) (nc ns : Nat) (v1 : Int32) (w : XS) (rec res : Nat) (hr : rec ≤ nc ∧ res ≤ ns) (hC : xC E RX0 cX0_ask 7 (some .int) p s m args meth c) (a : Int32 × Int32 × Int32) (y : (Int32 × Int32 × Int32) ⊕ Int32) (hE : fX0_ask_B30 k v1 w a = some y) (hc : ∀ a : Int32 × Int32 × Int32, y = .inl a → xW p l e rmX0_ask s m args below meth c E 7 Q (0 + nc) (0 + ns) 30 [(0, .ref (E.2.2.1 0)), (1, .int v1), (2, .int a.1), (3, .int a.2.1), (4, .int a.2.2)] [] w) (hx1 : ∀ b : Int32, y = .inr b → xW p l e rmX0_ask s m args below meth c E 7 Q rec res 94 [(2, .int b)] [] w) : xW p l e rmX0_ask s m args below meth c E 7 Q (12 + nc) (156 + ns) 37 [(0, .ref (E.2.2.1 0)), (1, .int v1), (2, .int a.1), (3, .int a.2.1), (4, .int a.2.2)] [] w := by
  intro H locs cells slots ls hP hS hB hl
  have hx := hC.1
  have hb := hC.2.1
  have hown := hC.2.2.2.2.2.1
  have hts := hC.2.2.2.2.2.2.1
  unfold fX0_ask_B30 at hE
  refine lv_iconst (v := 1) hx hb dX0_ask_37 (by decide) ?_
  refine lv_istore (lv' := [(5, .int (1 : Int32)), (0, .ref (E.2.2.1 0)), (1, .int v1), (2, .int a.1), (3, .int a.2.1), (4, .int a.2.2)]) hx hb dX0_ask_38 hl (Nat.le_of_ble_eq_true rfl) rfl (fun ls hl => ?_)
  obtain ⟨x_9, h_9, hE⟩ := ob hE
  refine lpw_walk (α := Int32 × Int32 × Int32) (β := (Int32 × Int32)) (fun n_9 p_9 => xW p l e rmX0_ask s m args below meth c E 7 Q (n_9 * 1 + (0 + nc)) (n_9 * 13 + (0 + ns)) 40 [(0, .ref (E.2.2.1 0)), (1, .int v1), (2, .int p_9.1), (3, .int p_9.2.1), (4, .int a.2.2), (5, .int p_9.2.2)] [] w) (fun n_9 p_9 => xW p l e rmX0_ask s m args below meth c E 7 Q (1 + (n_9 * 1 + (0 + nc))) (13 + (n_9 * 13 + (0 + ns))) 50 [(0, .ref (E.2.2.1 0)), (1, .int v1), (2, .int p_9.1), (3, .int p_9.2.1), (4, .int a.2.2), (5, .int p_9.2.2)] [] w) (fun q_9 => xW p l e rmX0_ask s m args below meth c E 7 Q (0 + nc) (0 + ns) 88 [(0, .ref (E.2.2.1 0)), (1, .int v1), (2, .int q_9.1), (3, .int q_9.2), (4, .int a.2.2)] [] w) (fun n_9 a_9 y_9 hB_9 hc_9 hx_9 => wX0_ask_T40 k v1 a.2.2 w (n_9 * 1 + (0 + nc)) (n_9 * 13 + (0 + ns)) (0 + nc) (0 + ns) ⟨Nat.le_add_left _ _, Nat.le_add_left _ _⟩ hC a_9 y_9 hB_9 (fun e_9 => ?_) hx_9) (fun n_9 a_9 y_9 hB_9 hc_9 hx_9 => wX0_ask_B40 k (n_9 * 1 + (0 + nc)) (n_9 * 13 + (0 + ns)) v1 a.2.2 w (0 + nc) (0 + ns) ⟨Nat.le_add_left _ _, Nat.le_add_left _ _⟩ hC a_9 y_9 hB_9 (fun b_9 e_9 => by have h9 := hc_9 b_9 e_9; rw [Nat.zero_add (n_9 * 1 + (0 + nc)), Nat.zero_add (n_9 * 13 + (0 + ns))]; exact h9) hx_9) 12 _ x_9 h_9 ?_ H locs cells slots ls hP hS ⟨by have := hB.1; omega, by have := hB.2; omega⟩ (lv_sub hl [1, 2, 3, 4, 5, 0] rfl)
  · obtain ⟨h1, h2⟩ := hc_9 e_9
    have e1 : n_9 * 1 + (0 + nc) = 1 + ((n_9 - 1) * 1 + (0 + nc)) := by omega
    have e2 : n_9 * 13 + (0 + ns) = 13 + ((n_9 - 1) * 13 + (0 + ns)) := by omega
    rw [e1, e2]
    exact h2
  intro H locs cells slots ls hP hS hB hl
  refine lv_iinc (v := (a.2.2 + (1 : Int32))) (lv' := [(4, .int (a.2.2 + (1 : Int32))), (0, .ref (E.2.2.1 0)), (1, .int v1), (2, .int x_9.1), (3, .int x_9.2)]) hx hb dX0_ask_88 hl (k := 4) rfl rfl (Nat.le_of_ble_eq_true rfl) rfl (fun ls hl => ?_)
  refine lv_goto (tgt := 30) hx hb dX0_ask_91 (by decide) ?_
  exact hc _ (Option.some.inj hE).symm H locs cells slots ls hP hS hB (lv_sub hl [1, 2, 3, 4, 0] rfl)
noncomputable def fX0_ask (k : Nat) (z : XS) (x1 : Int32) : Option Int32 := (fX0_in x1 (0 : Int32) (2 : Int32)).bind fun r_1 => if r_1 = 0 then (some (-1 : Int32)) else ((fX0_could k z x1 (0 : Int32)).bind fun r_3 => if (2 : Int32) ≤ r_3 then ((lpw (fX0_ask_T30 k x1 z) (fX0_ask_B30 k x1 z) 12 ((-1 : Int32), (99999 : Int32), (0 : Int32))).bind fun x_10 => some x_10) else (some (-1 : Int32)))
set_option maxHeartbeats 1000000 in
theorem wX0_ask {l : Launch} {E : XE} (k : Nat) (z : XS) (x1 : Int32) (y : Int32) (hE : fX0_ask k z x1 = some y) : xM l yX0_ask (ws_ yX0_ask cX0_ask 7 (some .int)) rmX0_ask E z [.ref (E.2.2.1 0), .int x1] (some (.int y)) z := by
  refine x_met (own := RX0) (by decide) rfl (Nat.le_of_ble_eq_true rfl) (fun p e s m args below meth c hC => ?_)
  intro H locs cells slots ls hP hS hB hl
  have hx := hC.1
  have hb := hC.2.1
  have hown := hC.2.2.2.2.2.1
  have hts := hC.2.2.2.2.2.2.1
  have hl : lv_has ls 7 [(0, .ref (E.2.2.1 0)), (1, .int x1)] := hl
  unfold fX0_ask at hE
  refine lv_iload_n hx hb dX0_ask_0 rfl (lv_at hl 1 rfl) ?_
  refine lv_iconst (v := 0) hx hb dX0_ask_1 (by decide) ?_
  refine lv_iconst (v := 2) hx hb dX0_ask_2 (by decide) ?_
  obtain ⟨r_1, h_1, hE⟩ := ob hE
  refine s_calli [.int x1, .int (0 : Int32), .int (2 : Int32)] hC.sC hl.1 (wX0_in x1 (0 : Int32) (2 : Int32) r_1 h_1) (va_cwS 3 hts lkX0_58 rfl rfl rfl cdX0_in ⟨Nat.le_of_ble_eq_true rfl, Nat.le_of_ble_eq_true rfl⟩) rfl rfl (lv_room (Nat.le_of_ble_eq_true rfl)) (hB0 hB) dX0_ask_3 ?_
  refine lv_if_eq (tgt := 19) hx hb dX0_ask_6 (by decide) (fun c_2 => ?_) (fun c_2 => ?_)
  · have hE := ip c_2 hE
    refine lv_iconst (v := -1) hx hb dX0_ask_19 (by decide) ?_
    obtain rfl := Option.some.inj hE
    exact x_iret hC hP hS hB dX0_ask_20
  · have hE := iq c_2 hE
    refine lv_aload_n hx hb dX0_ask_9 rfl (lv_at hl 0 rfl) ?_
    refine lv_iload_n hx hb dX0_ask_10 rfl (lv_at hl 1 rfl) ?_
    refine lv_iconst (v := 0) hx hb dX0_ask_11 (by decide) ?_
    obtain ⟨r_3, h_3, hE⟩ := ob hE
    refine x_callV (rc1 := _) (rs1 := _) [.int x1, .int (0 : Int32)] (E.2.2.1 0) hC hP hS hB hl.1 (wX0_could k z x1 (0 : Int32) r_3 h_3) (xC.c0 hC) (xw_get E _ (k := 0) (by decide)) (cwV 2 hts lkX0_339 rfl rfl rfl cdX0_could ⟨Nat.le_of_ble_eq_true rfl, Nat.le_of_ble_eq_true rfl⟩) rfl rfl (lv_room (Nat.le_of_ble_eq_true rfl)) ⟨Nat.le_of_eq (Nat.zero_add _), Nat.le_of_eq (Nat.zero_add _)⟩ dX0_ask_12 (fun H locs cells slots hP hS hB => ?_)
    show W p l e _ s m args below meth c H locs cells slots _ (F0 m _ ls (.int r_3 :: []))
    refine lv_iconst (v := 2) hx hb dX0_ask_15 (by decide) ?_
    refine lv_icmp_ge (tgt := 21) hx hb dX0_ask_16 (by decide) (fun c_4 => ?_) (fun c_4 => ?_)
    · have hE := ip c_4 hE
      refine lv_iconst (v := -1) hx hb dX0_ask_21 (by decide) ?_
      refine lv_istore_n (lv' := [(2, .int (-1 : Int32)), (0, .ref (E.2.2.1 0)), (1, .int x1)]) hx hb dX0_ask_22 rfl hl (Nat.le_of_ble_eq_true rfl) rfl (fun ls hl => ?_)
      refine lv_ldcw (v := 99999) hx hb hown (hts _ q1249) dX0_ask_23 ?_
      refine lv_istore_n (lv' := [(3, .int (99999 : Int32)), (2, .int (-1 : Int32)), (0, .ref (E.2.2.1 0)), (1, .int x1)]) hx hb dX0_ask_26 rfl hl (Nat.le_of_ble_eq_true rfl) rfl (fun ls hl => ?_)
      refine lv_iconst (v := 0) hx hb dX0_ask_27 (by decide) ?_
      refine lv_istore (lv' := [(4, .int (0 : Int32)), (3, .int (99999 : Int32)), (2, .int (-1 : Int32)), (0, .ref (E.2.2.1 0)), (1, .int x1)]) hx hb dX0_ask_28 hl (Nat.le_of_ble_eq_true rfl) rfl (fun ls hl => ?_)
      obtain ⟨x_10, h_10, hE⟩ := ob hE
      refine lpw_walk (α := Int32 × Int32 × Int32) (β := Int32) (fun n_10 p_10 => xW p l e rmX0_ask s m args below meth c E 7 (xQ E rmX0_ask below args s (some (.int y)) z) (n_10 * 12 + 0) (n_10 * 156 + 0) 30 [(0, .ref (E.2.2.1 0)), (1, .int x1), (2, .int p_10.1), (3, .int p_10.2.1), (4, .int p_10.2.2)] [] z) (fun n_10 p_10 => xW p l e rmX0_ask s m args below meth c E 7 (xQ E rmX0_ask below args s (some (.int y)) z) (12 + (n_10 * 12 + 0)) (156 + (n_10 * 156 + 0)) 37 [(0, .ref (E.2.2.1 0)), (1, .int x1), (2, .int p_10.1), (3, .int p_10.2.1), (4, .int p_10.2.2)] [] z) (fun q_10 => xW p l e rmX0_ask s m args below meth c E 7 (xQ E rmX0_ask below args s (some (.int y)) z) 0 0 94 [(2, .int q_10)] [] z) (fun n_10 a_10 y_10 hB_10 hc_10 hx_10 => wX0_ask_T30 k x1 z (n_10 * 12 + 0) (n_10 * 156 + 0) 0 0 ⟨Nat.le_add_left _ _, Nat.le_add_left _ _⟩ hC a_10 y_10 hB_10 (fun e_10 => ?_) hx_10) (fun n_10 a_10 y_10 hB_10 hc_10 hx_10 => wX0_ask_B30 k (n_10 * 12 + 0) (n_10 * 156 + 0) x1 z 0 0 ⟨Nat.le_add_left _ _, Nat.le_add_left _ _⟩ hC a_10 y_10 hB_10 (fun b_10 e_10 => by have h9 := hc_10 b_10 e_10; rw [Nat.zero_add (n_10 * 12 + 0), Nat.zero_add (n_10 * 156 + 0)]; exact h9) hx_10) 12 _ x_10 h_10 ?_ H locs cells slots ls hP hS ⟨by have := hB.1; omega, by have := hB.2; omega⟩ (lv_sub hl [3, 4, 2, 1, 0] rfl)
      · obtain ⟨h1, h2⟩ := hc_10 e_10
        have e1 : n_10 * 12 + 0 = 12 + ((n_10 - 1) * 12 + 0) := by omega
        have e2 : n_10 * 156 + 0 = 156 + ((n_10 - 1) * 156 + 0) := by omega
        rw [e1, e2]
        exact h2
      intro H locs cells slots ls hP hS hB hl
      refine lv_iload_n hx hb dX0_ask_94 rfl (lv_at hl 0 rfl) ?_
      obtain rfl := Option.some.inj hE
      exact x_iret hC hP hS hB dX0_ask_95
    · have hE := iq c_4 hE
      refine lv_iconst (v := -1) hx hb dX0_ask_19 (by decide) ?_
      obtain rfl := Option.some.inj hE
      exact x_iret hC hP hS hB dX0_ask_20
noncomputable def fX0_costBy (z : XS) (x1 : Int32) (x2 : Int32) (x3 : Int32) : Option Int32 := if ib ((32 : Int32) + x2) 190 then none else (if ib x1 30 then none else (if ib x2 30 then none else (if ib (x2 + (1 : Int32)) 30 then none else (if ib x3 30 then none else (some (((z.2.1 9 ((32 : Int32) + x2).toNatClampNeg) + (1 : Int32)) + (if (z.2.1 (26 + x1.toNatClampNeg) x2.toNatClampNeg) < (z.2.1 (26 + (x2 + (1 : Int32)).toNatClampNeg) x3.toNatClampNeg) then (z.2.1 (26 + (x2 + (1 : Int32)).toNatClampNeg) x3.toNatClampNeg) else (z.2.1 (26 + x1.toNatClampNeg) x2.toNatClampNeg))))))))
set_option maxHeartbeats 1000000 in
theorem wX0_costBy {l : Launch} {E : XE} (z : XS) (x1 : Int32) (x2 : Int32) (x3 : Int32) (y : Int32) (hE : fX0_costBy z x1 x2 x3 = some y) : xM l yX0_costBy (ws_ yX0_costBy cX0_costBy 4 (some .int)) rmX0_costBy E z [.ref (E.2.2.1 0), .int x1, .int x2, .int x3] (some (.int y)) z := by
  refine x_met (own := RX0) (by decide) rfl (Nat.le_of_ble_eq_true rfl) (fun p e s m args below meth c hC => ?_)
  intro H locs cells slots ls hP hS hB hl
  have hx := hC.1
  have hb := hC.2.1
  have hown := hC.2.2.2.2.2.1
  have hts := hC.2.2.2.2.2.2.1
  have hl : lv_has ls 4 [(0, .ref (E.2.2.1 0)), (1, .int x1), (2, .int x2), (3, .int x3)] := hl
  unfold fX0_costBy at hE
  refine lv_aload_n hx hb dX0_costBy_0 rfl (lv_at hl 0 rfl) ?_
  refine gX_21 hC hP dX0_costBy_1 ?_
  refine gN_65_1 hC hP dX0_costBy_4 ?_
  refine lv_bipush (v := 32) hx hb dX0_costBy_7 (by decide) ?_
  refine lv_iload_n hx hb dX0_costBy_9 rfl (lv_at hl 2 rfl) ?_
  refine lv_iadd hx hb dX0_costBy_10 ?_
  obtain ⟨c_1, hE⟩ := og hE
  refine x_iald hC hP (⟨by decide, rfl, rfl⟩ : xint 9 190) c_1 dX0_costBy_11 ?_
  refine lv_iconst (v := 1) hx hb dX0_costBy_12 (by decide) ?_
  refine lv_iadd hx hb dX0_costBy_13 ?_
  refine lv_aload_n hx hb dX0_costBy_14 rfl (lv_at hl 0 rfl) ?_
  refine gX_51 hC hP dX0_costBy_15 ?_
  refine lv_iload_n hx hb dX0_costBy_18 rfl (lv_at hl 1 rfl) ?_
  obtain ⟨c_2, hE⟩ := og hE
  refine x_aald hC hP xo_7 c_2 dX0_costBy_19 ?_
  refine lv_iload_n hx hb dX0_costBy_20 rfl (lv_at hl 2 rfl) ?_
  obtain ⟨c_3, hE⟩ := og hE
  refine x_iald hC hP (xrow xo_7 c_2) c_3 dX0_costBy_21 ?_
  refine lv_aload_n hx hb dX0_costBy_22 rfl (lv_at hl 0 rfl) ?_
  refine gX_51 hC hP dX0_costBy_23 ?_
  refine lv_iload_n hx hb dX0_costBy_26 rfl (lv_at hl 2 rfl) ?_
  refine lv_iconst (v := 1) hx hb dX0_costBy_27 (by decide) ?_
  refine lv_iadd hx hb dX0_costBy_28 ?_
  obtain ⟨c_4, hE⟩ := og hE
  refine x_aald hC hP xo_7 c_4 dX0_costBy_29 ?_
  refine lv_iload_n hx hb dX0_costBy_30 rfl (lv_at hl 3 rfl) ?_
  obtain ⟨c_5, hE⟩ := og hE
  refine x_iald hC hP (xrow xo_7 c_4) c_5 dX0_costBy_31 ?_
  refine va_mmax hx hb (hC.2.2.2.2.1.trans hl.1.symm) hown (hts _ q1254) (hts _ q625) (hts _ q135) (hts _ q626) (Nat.le_of_ble_eq_true rfl) (Nat.le_of_ble_eq_true rfl) (Nat.le_trans (Nat.le_add_right _ _) hB.1) (Nat.le_trans (Nat.le_add_right _ _) hB.2) dX0_costBy_32 ?_
  refine lv_iadd hx hb dX0_costBy_35 ?_
  obtain rfl := Option.some.inj hE
  exact x_iret hC hP hS hB dX0_costBy_36
noncomputable def fX0_laysCosts_B39 (k : Nat) (v1 : Int32) (v2 : Int32) (a : Int32 × XS) : Option ((Int32 × XS) ⊕ XS) := if v2 ≤ a.1 then (some (.inr a.2)) else (if ib v1 30 then none else (if ib v1 30 then none else (if ib v2 30 then none else ((fX0_costBy a.2 v1 a.1 v2).bind fun r_11 => if ib v2 30 then none else (nm (xA a.2 (26 + v1.toNatClampNeg) (upd (a.2.2.1 (26 + v1.toNatClampNeg)) v2.toNatClampNeg (if r_11 < (a.2.2.1 (26 + v1.toNatClampNeg) v2.toNatClampNeg) then r_11 else (a.2.2.1 (26 + v1.toNatClampNeg) v2.toNatClampNeg)))) fun z_13 => some (.inl ((a.1 + (1 : Int32)), z_13)))))))
set_option maxHeartbeats 1000000 in
theorem wX0_laysCosts_B39 {p : Program} {l : Launch} {e : Env} {s : State} {m : MethodId} {args : Array Value} {below : List Frame} {meth : Method} {c : Code} {E : XE} {Q : State → Prop} (k : Nat) (v1 : Int32) (v2 : Int32) (hC : xC E RX0 cX0_laysCosts 4 none p s m args meth c) (a : Int32 × XS) (y : (Int32 × XS) ⊕ XS) (hE : fX0_laysCosts_B39 k v1 v2 a = some y) (hc : ∀ a : Int32 × XS, y = .inl a → xW p l e rmX0_laysCosts s m args below meth c E 4 Q 0 0 39 [(0, .ref (E.2.2.1 0)), (1, .int v1), (2, .int v2), (3, .int a.1)] [] a.2) (hx1 : ∀ b : XS, y = .inr b → xW p l e rmX0_laysCosts s m args below meth c E 4 Q 0 0 76 [(0, .ref (E.2.2.1 0)), (1, .int v1), (2, .int v2)] [] b) : xW p l e rmX0_laysCosts s m args below meth c E 4 Q 0 0 39 [(0, .ref (E.2.2.1 0)), (1, .int v1), (2, .int v2), (3, .int a.1)] [] a.2 := by
  intro H locs cells slots ls hP hS hB hl
  have hx := hC.1
  have hb := hC.2.1
  have hown := hC.2.2.2.2.2.1
  have hts := hC.2.2.2.2.2.2.1
  unfold fX0_laysCosts_B39 at hE
  refine lv_iload_n hx hb dX0_laysCosts_39 rfl (lv_at hl 3 rfl) ?_
  refine lv_iload_n hx hb dX0_laysCosts_40 rfl (lv_at hl 2 rfl) ?_
  refine lv_icmp_ge (tgt := 76) hx hb dX0_laysCosts_41 (by decide) (fun c_7 => ?_) (fun c_7 => ?_)
  · have hE := ip c_7 hE
    exact hx1 _ (Option.some.inj hE).symm H locs cells slots ls hP hS hB (lv_sub hl [0, 1, 2] rfl)
  · have hE := iq c_7 hE
    refine lv_aload_n hx hb dX0_laysCosts_44 rfl (lv_at hl 0 rfl) ?_
    refine gX_51 hC hP dX0_laysCosts_45 ?_
    refine lv_iload_n hx hb dX0_laysCosts_48 rfl (lv_at hl 1 rfl) ?_
    obtain ⟨c_8, hE⟩ := og hE
    refine x_aald hC hP xo_7 c_8 dX0_laysCosts_49 ?_
    refine lv_iload_n hx hb dX0_laysCosts_50 rfl (lv_at hl 2 rfl) ?_
    refine lv_aload_n hx hb dX0_laysCosts_51 rfl (lv_at hl 0 rfl) ?_
    refine gX_51 hC hP dX0_laysCosts_52 ?_
    refine lv_iload_n hx hb dX0_laysCosts_55 rfl (lv_at hl 1 rfl) ?_
    obtain ⟨c_9, hE⟩ := og hE
    refine x_aald hC hP xo_7 c_9 dX0_laysCosts_56 ?_
    refine lv_iload_n hx hb dX0_laysCosts_57 rfl (lv_at hl 2 rfl) ?_
    obtain ⟨c_10, hE⟩ := og hE
    refine x_iald hC hP (xrow xo_7 c_9) c_10 dX0_laysCosts_58 ?_
    refine lv_aload_n hx hb dX0_laysCosts_59 rfl (lv_at hl 0 rfl) ?_
    refine lv_iload_n hx hb dX0_laysCosts_60 rfl (lv_at hl 1 rfl) ?_
    refine lv_iload_n hx hb dX0_laysCosts_61 rfl (lv_at hl 3 rfl) ?_
    refine lv_iload_n hx hb dX0_laysCosts_62 rfl (lv_at hl 2 rfl) ?_
    obtain ⟨r_11, h_11, hE⟩ := ob hE
    refine x_callV (rc1 := _) (rs1 := _) [.int v1, .int a.1, .int v2] (E.2.2.1 0) hC hP hS hB hl.1 (wX0_costBy a.2 v1 a.1 v2 r_11 h_11) (xC.c0 hC) (xw_get E _ (k := 0) (by decide)) (cwV 3 hts lkX0_346 rfl rfl rfl cdX0_costBy ⟨Nat.le_of_ble_eq_true rfl, Nat.le_of_ble_eq_true rfl⟩) rfl rfl (lv_room (Nat.le_of_ble_eq_true rfl)) ⟨Nat.le_of_eq (Nat.zero_add _), Nat.le_of_eq (Nat.zero_add _)⟩ dX0_laysCosts_63 (fun H locs cells slots hP hS hB => ?_)
    show W p l e _ s m args below meth c H locs cells slots _ (F0 m _ ls (.int r_11 :: .int (a.2.2.1 (26 + v1.toNatClampNeg) v2.toNatClampNeg) :: .int v2 :: .ref (E.2.2.1 (26 + v1.toNatClampNeg)) :: []))
    refine va_mmin hx hb (hC.2.2.2.2.1.trans hl.1.symm) hown (hts _ q1056) (hts _ q455) (hts _ q135) (hts _ q456) (Nat.le_of_ble_eq_true rfl) (Nat.le_of_ble_eq_true rfl) (Nat.le_trans (Nat.le_add_right _ _) hB.1) (Nat.le_trans (Nat.le_add_right _ _) hB.2) dX0_laysCosts_66 ?_
    obtain ⟨c_13, hE⟩ := og hE
    obtain ⟨z_13, ez_13, hE⟩ := on hE
    refine x_iast hC hP hS (xrow xo_7 c_8) c_13 ez_13 dX0_laysCosts_69 (fun H locs hP hS => ?_)
    refine lv_iinc (v := (a.1 + (1 : Int32))) (lv' := [(3, .int (a.1 + (1 : Int32))), (0, .ref (E.2.2.1 0)), (1, .int v1), (2, .int v2)]) hx hb dX0_laysCosts_70 hl (k := 3) rfl rfl (Nat.le_of_ble_eq_true rfl) rfl (fun ls hl => ?_)
    refine lv_goto (tgt := 39) hx hb dX0_laysCosts_73 (by decide) ?_
    exact hc _ (Option.some.inj hE).symm H locs cells slots ls hP hS hB (lv_sub hl [1, 2, 3, 0] rfl)
noncomputable def fX0_laysCosts_B20 (k : Nat) (v1 : Int32) (a : Int32 × XS) : Option ((Int32 × XS) ⊕ XS) := if (30 : Int32) ≤ a.1 then (some (.inr a.2)) else (if ib v1 30 then none else (if ib a.1 30 then none else (nm (xA a.2 (26 + v1.toNatClampNeg) (upd (a.2.2.1 (26 + v1.toNatClampNeg)) a.1.toNatClampNeg (99999 : Int32))) fun z_6 => (lpo (fX0_laysCosts_B39 k v1 a.1) k (v1, z_6)).bind fun x_14 => some (.inl ((a.1 + (1 : Int32)), x_14)))))
set_option maxHeartbeats 1000000 in
theorem wX0_laysCosts_B20 {p : Program} {l : Launch} {e : Env} {s : State} {m : MethodId} {args : Array Value} {below : List Frame} {meth : Method} {c : Code} {E : XE} {Q : State → Prop} (k : Nat) (v1 : Int32) (hC : xC E RX0 cX0_laysCosts 4 none p s m args meth c) (a : Int32 × XS) (y : (Int32 × XS) ⊕ XS) (hE : fX0_laysCosts_B20 k v1 a = some y) (hc : ∀ a : Int32 × XS, y = .inl a → xW p l e rmX0_laysCosts s m args below meth c E 4 Q 0 0 20 [(0, .ref (E.2.2.1 0)), (1, .int v1), (2, .int a.1)] [] a.2) (hx1 : ∀ b : XS, y = .inr b → xW p l e rmX0_laysCosts s m args below meth c E 4 Q 0 0 82 [(0, .ref (E.2.2.1 0)), (1, .int v1)] [] b) : xW p l e rmX0_laysCosts s m args below meth c E 4 Q 0 0 20 [(0, .ref (E.2.2.1 0)), (1, .int v1), (2, .int a.1)] [] a.2 := by
  intro H locs cells slots ls hP hS hB hl
  have hx := hC.1
  have hb := hC.2.1
  have hown := hC.2.2.2.2.2.1
  have hts := hC.2.2.2.2.2.2.1
  unfold fX0_laysCosts_B20 at hE
  refine lv_iload_n hx hb dX0_laysCosts_20 rfl (lv_at hl 2 rfl) ?_
  refine lv_bipush (v := 30) hx hb dX0_laysCosts_21 (by decide) ?_
  refine lv_icmp_ge (tgt := 82) hx hb dX0_laysCosts_23 (by decide) (fun c_4 => ?_) (fun c_4 => ?_)
  · have hE := ip c_4 hE
    exact hx1 _ (Option.some.inj hE).symm H locs cells slots ls hP hS hB (lv_sub hl [0, 1] rfl)
  · have hE := iq c_4 hE
    refine lv_aload_n hx hb dX0_laysCosts_26 rfl (lv_at hl 0 rfl) ?_
    refine gX_51 hC hP dX0_laysCosts_27 ?_
    refine lv_iload_n hx hb dX0_laysCosts_30 rfl (lv_at hl 1 rfl) ?_
    obtain ⟨c_5, hE⟩ := og hE
    refine x_aald hC hP xo_7 c_5 dX0_laysCosts_31 ?_
    refine lv_iload_n hx hb dX0_laysCosts_32 rfl (lv_at hl 2 rfl) ?_
    refine lv_ldcw (v := 99999) hx hb hown (hts _ q1249) dX0_laysCosts_33 ?_
    obtain ⟨c_6, hE⟩ := og hE
    obtain ⟨z_6, ez_6, hE⟩ := on hE
    refine x_iast hC hP hS (xrow xo_7 c_5) c_6 ez_6 dX0_laysCosts_36 (fun H locs hP hS => ?_)
    refine lv_iload_n hx hb dX0_laysCosts_37 rfl (lv_at hl 1 rfl) ?_
    refine lv_istore_n (lv' := [(3, .int v1), (0, .ref (E.2.2.1 0)), (1, .int v1), (2, .int a.1)]) hx hb dX0_laysCosts_38 rfl hl (Nat.le_of_ble_eq_true rfl) rfl (fun ls hl => ?_)
    obtain ⟨x_14, h_14, hE⟩ := ob hE
    refine lpo_walk (fun p_14 : Int32 × XS => xW p l e rmX0_laysCosts s m args below meth c E 4 Q 0 0 39 [(0, .ref (E.2.2.1 0)), (1, .int v1), (2, .int a.1), (3, .int p_14.1)] [] p_14.2) (fun q_14 : XS => xW p l e rmX0_laysCosts s m args below meth c E 4 Q 0 0 76 [(0, .ref (E.2.2.1 0)), (1, .int v1), (2, .int a.1)] [] q_14) (fun a_14 y_14 hB_14 hc_14 hx_14 => wX0_laysCosts_B39 k v1 a.1 hC a_14 y_14 hB_14 hc_14 hx_14) _ _ x_14 h_14 ?_ H locs cells slots ls hP hS hB (lv_sub hl [1, 2, 3, 0] rfl)
    intro H locs cells slots ls hP hS hB hl
    refine lv_iinc (v := (a.1 + (1 : Int32))) (lv' := [(2, .int (a.1 + (1 : Int32))), (0, .ref (E.2.2.1 0)), (1, .int v1)]) hx hb dX0_laysCosts_76 hl (k := 2) rfl rfl (Nat.le_of_ble_eq_true rfl) rfl (fun ls hl => ?_)
    refine lv_goto (tgt := 20) hx hb dX0_laysCosts_79 (by decide) ?_
    exact hc _ (Option.some.inj hE).symm H locs cells slots ls hP hS hB (lv_sub hl [1, 2, 0] rfl)
noncomputable def fX0_laysCosts_B3 (k : Nat)  (a : Int32 × XS) : Option ((Int32 × XS) ⊕ XS) := if a.1 < 0 then (some (.inr a.2)) else (if ib a.1 30 then none else (if ib a.1 30 then none else (nm (xA a.2 (26 + a.1.toNatClampNeg) (upd (a.2.2.1 (26 + a.1.toNatClampNeg)) a.1.toNatClampNeg (0 : Int32))) fun z_3 => (lpo (fX0_laysCosts_B20 k a.1) k ((a.1 + (1 : Int32)), z_3)).bind fun x_15 => some (.inl ((a.1 + (-1 : Int32)), x_15)))))
set_option maxHeartbeats 1000000 in
theorem wX0_laysCosts_B3 {p : Program} {l : Launch} {e : Env} {s : State} {m : MethodId} {args : Array Value} {below : List Frame} {meth : Method} {c : Code} {E : XE} {Q : State → Prop} (k : Nat)  (hC : xC E RX0 cX0_laysCosts 4 none p s m args meth c) (a : Int32 × XS) (y : (Int32 × XS) ⊕ XS) (hE : fX0_laysCosts_B3 k  a = some y) (hc : ∀ a : Int32 × XS, y = .inl a → xW p l e rmX0_laysCosts s m args below meth c E 4 Q 0 0 3 [(0, .ref (E.2.2.1 0)), (1, .int a.1)] [] a.2) (hx1 : ∀ b : XS, y = .inr b → xW p l e rmX0_laysCosts s m args below meth c E 4 Q 0 0 88 [] [] b) : xW p l e rmX0_laysCosts s m args below meth c E 4 Q 0 0 3 [(0, .ref (E.2.2.1 0)), (1, .int a.1)] [] a.2 := by
  intro H locs cells slots ls hP hS hB hl
  have hx := hC.1
  have hb := hC.2.1
  have hown := hC.2.2.2.2.2.1
  have hts := hC.2.2.2.2.2.2.1
  unfold fX0_laysCosts_B3 at hE
  refine lv_iload_n hx hb dX0_laysCosts_3 rfl (lv_at hl 1 rfl) ?_
  refine lv_if_lt (tgt := 88) hx hb dX0_laysCosts_4 (by decide) (fun c_1 => ?_) (fun c_1 => ?_)
  · have hE := ip c_1 hE
    exact hx1 _ (Option.some.inj hE).symm H locs cells slots ls hP hS hB (lv_sub hl [] rfl)
  · have hE := iq c_1 hE
    refine lv_aload_n hx hb dX0_laysCosts_7 rfl (lv_at hl 0 rfl) ?_
    refine gX_51 hC hP dX0_laysCosts_8 ?_
    refine lv_iload_n hx hb dX0_laysCosts_11 rfl (lv_at hl 1 rfl) ?_
    obtain ⟨c_2, hE⟩ := og hE
    refine x_aald hC hP xo_7 c_2 dX0_laysCosts_12 ?_
    refine lv_iload_n hx hb dX0_laysCosts_13 rfl (lv_at hl 1 rfl) ?_
    refine lv_iconst (v := 0) hx hb dX0_laysCosts_14 (by decide) ?_
    obtain ⟨c_3, hE⟩ := og hE
    obtain ⟨z_3, ez_3, hE⟩ := on hE
    refine x_iast hC hP hS (xrow xo_7 c_2) c_3 ez_3 dX0_laysCosts_15 (fun H locs hP hS => ?_)
    refine lv_iload_n hx hb dX0_laysCosts_16 rfl (lv_at hl 1 rfl) ?_
    refine lv_iconst (v := 1) hx hb dX0_laysCosts_17 (by decide) ?_
    refine lv_iadd hx hb dX0_laysCosts_18 ?_
    refine lv_istore_n (lv' := [(2, .int (a.1 + (1 : Int32))), (0, .ref (E.2.2.1 0)), (1, .int a.1)]) hx hb dX0_laysCosts_19 rfl hl (Nat.le_of_ble_eq_true rfl) rfl (fun ls hl => ?_)
    obtain ⟨x_15, h_15, hE⟩ := ob hE
    refine lpo_walk (fun p_15 : Int32 × XS => xW p l e rmX0_laysCosts s m args below meth c E 4 Q 0 0 20 [(0, .ref (E.2.2.1 0)), (1, .int a.1), (2, .int p_15.1)] [] p_15.2) (fun q_15 : XS => xW p l e rmX0_laysCosts s m args below meth c E 4 Q 0 0 82 [(0, .ref (E.2.2.1 0)), (1, .int a.1)] [] q_15) (fun a_15 y_15 hB_15 hc_15 hx_15 => wX0_laysCosts_B20 k a.1 hC a_15 y_15 hB_15 hc_15 hx_15) _ _ x_15 h_15 ?_ H locs cells slots ls hP hS hB (lv_sub hl [1, 2, 0] rfl)
    intro H locs cells slots ls hP hS hB hl
    refine lv_iinc (v := (a.1 + (-1 : Int32))) (lv' := [(1, .int (a.1 + (-1 : Int32))), (0, .ref (E.2.2.1 0))]) hx hb dX0_laysCosts_82 hl (k := 1) rfl rfl (Nat.le_of_ble_eq_true rfl) rfl (fun ls hl => ?_)
    refine lv_goto (tgt := 3) hx hb dX0_laysCosts_85 (by decide) ?_
    exact hc _ (Option.some.inj hE).symm H locs cells slots ls hP hS hB (lv_sub hl [1, 0] rfl)
noncomputable def fX0_laysCosts (k : Nat) (z : XS)  : Option XS := (lpo (fX0_laysCosts_B3 k ) k ((29 : Int32), z)).bind fun x_16 => some x_16
set_option maxHeartbeats 1000000 in
theorem wX0_laysCosts {l : Launch} {E : XE} (k : Nat) (z : XS)  (y : XS) (hE : fX0_laysCosts k z  = some y) : xM l yX0_laysCosts (ws_ yX0_laysCosts cX0_laysCosts 4 none) rmX0_laysCosts E z [.ref (E.2.2.1 0)] none y := by
  refine x_met (own := RX0) (by decide) rfl (Nat.le_of_ble_eq_true rfl) (fun p e s m args below meth c hC => ?_)
  intro H locs cells slots ls hP hS hB hl
  have hx := hC.1
  have hb := hC.2.1
  have hown := hC.2.2.2.2.2.1
  have hts := hC.2.2.2.2.2.2.1
  have hl : lv_has ls 4 [(0, .ref (E.2.2.1 0))] := hl
  unfold fX0_laysCosts at hE
  refine lv_bipush (v := 29) hx hb dX0_laysCosts_0 (by decide) ?_
  refine lv_istore_n (lv' := [(1, .int (29 : Int32)), (0, .ref (E.2.2.1 0))]) hx hb dX0_laysCosts_2 rfl hl (Nat.le_of_ble_eq_true rfl) rfl (fun ls hl => ?_)
  obtain ⟨x_16, h_16, hE⟩ := ob hE
  refine lpo_walk (fun p_16 : Int32 × XS => xW p l e rmX0_laysCosts s m args below meth c E 4 (xQ E rmX0_laysCosts below args s none y) 0 0 3 [(0, .ref (E.2.2.1 0)), (1, .int p_16.1)] [] p_16.2) (fun q_16 : XS => xW p l e rmX0_laysCosts s m args below meth c E 4 (xQ E rmX0_laysCosts below args s none y) 0 0 88 [] [] q_16) (fun a_16 y_16 hB_16 hc_16 hx_16 => wX0_laysCosts_B3 k  hC a_16 y_16 hB_16 hc_16 hx_16) _ _ x_16 h_16 ?_ H locs cells slots ls hP hS hB (lv_sub hl [1, 0] rfl)
  intro H locs cells slots ls hP hS hB hl
  obtain rfl := Option.some.inj hE
  exact x_vret hC hP hS hB dX0_laysCosts_88
noncomputable def fX0_sings_B39 (k : Nat) (v1 : Int32) (v2 : Int32) (w : XS) (a : Int32) : Option (Int32 ⊕ Int32) := if v2 ≤ a then (some (.inr a)) else ((fX0_costBy w v1 a v2).bind fun r_8 => if ib v1 30 then none else (if ib v2 30 then none else (if r_8 = (w.2.1 (26 + v1.toNatClampNeg) v2.toNatClampNeg) then (some (.inr a)) else (some (.inl (a + (1 : Int32)))))))
set_option maxHeartbeats 1000000 in
theorem wX0_sings_B39 {p : Program} {l : Launch} {e : Env} {s : State} {m : MethodId} {args : Array Value} {below : List Frame} {meth : Method} {c : Code} {E : XE} {Q : State → Prop} (k : Nat) (v1 : Int32) (v2 : Int32) (w : XS) (hC : xC E RX0 cX0_sings 5 (some .int) p s m args meth c) (a : Int32) (y : Int32 ⊕ Int32) (hE : fX0_sings_B39 k v1 v2 w a = some y) (hc : ∀ a : Int32, y = .inl a → xW p l e rmX0_sings s m args below meth c E 5 Q 0 0 39 [(0, .ref (E.2.2.1 0)), (1, .int v1), (2, .int v2), (4, .int a)] [] w) (hx1 : ∀ b : Int32, y = .inr b → xW p l e rmX0_sings s m args below meth c E 5 Q 0 0 70 [(1, .int v1), (2, .int v2), (4, .int b)] [] w) : xW p l e rmX0_sings s m args below meth c E 5 Q 0 0 39 [(0, .ref (E.2.2.1 0)), (1, .int v1), (2, .int v2), (4, .int a)] [] w := by
  intro H locs cells slots ls hP hS hB hl
  have hx := hC.1
  have hb := hC.2.1
  have hown := hC.2.2.2.2.2.1
  have hts := hC.2.2.2.2.2.2.1
  unfold fX0_sings_B39 at hE
  refine lv_iload hx hb dX0_sings_39 (lv_at hl 3 rfl) ?_
  refine lv_iload_n hx hb dX0_sings_41 rfl (lv_at hl 2 rfl) ?_
  refine lv_icmp_ge (tgt := 70) hx hb dX0_sings_42 (by decide) (fun c_7 => ?_) (fun c_7 => ?_)
  · have hE := ip c_7 hE
    exact hx1 _ (Option.some.inj hE).symm H locs cells slots ls hP hS hB (lv_sub hl [1, 2, 3] rfl)
  · have hE := iq c_7 hE
    refine lv_aload_n hx hb dX0_sings_45 rfl (lv_at hl 0 rfl) ?_
    refine lv_iload_n hx hb dX0_sings_46 rfl (lv_at hl 1 rfl) ?_
    refine lv_iload hx hb dX0_sings_47 (lv_at hl 3 rfl) ?_
    refine lv_iload_n hx hb dX0_sings_49 rfl (lv_at hl 2 rfl) ?_
    obtain ⟨r_8, h_8, hE⟩ := ob hE
    refine x_callV (rc1 := _) (rs1 := _) [.int v1, .int a, .int v2] (E.2.2.1 0) hC hP hS hB hl.1 (wX0_costBy w v1 a v2 r_8 h_8) (xC.c0 hC) (xw_get E _ (k := 0) (by decide)) (cwV 3 hts lkX0_346 rfl rfl rfl cdX0_costBy ⟨Nat.le_of_ble_eq_true rfl, Nat.le_of_ble_eq_true rfl⟩) rfl rfl (lv_room (Nat.le_of_ble_eq_true rfl)) ⟨Nat.le_of_eq (Nat.zero_add _), Nat.le_of_eq (Nat.zero_add _)⟩ dX0_sings_50 (fun H locs cells slots hP hS hB => ?_)
    show W p l e _ s m args below meth c H locs cells slots _ (F0 m _ ls (.int r_8 :: []))
    refine lv_aload_n hx hb dX0_sings_53 rfl (lv_at hl 0 rfl) ?_
    refine gX_51 hC hP dX0_sings_54 ?_
    refine lv_iload_n hx hb dX0_sings_57 rfl (lv_at hl 1 rfl) ?_
    obtain ⟨c_9, hE⟩ := og hE
    refine x_aald hC hP xo_7 c_9 dX0_sings_58 ?_
    refine lv_iload_n hx hb dX0_sings_59 rfl (lv_at hl 2 rfl) ?_
    obtain ⟨c_10, hE⟩ := og hE
    refine x_iald hC hP (xrow xo_7 c_9) c_10 dX0_sings_60 ?_
    refine lv_icmp_eq (tgt := 70) hx hb dX0_sings_61 (by decide) (fun c_11 => ?_) (fun c_11 => ?_)
    · have hE := ip c_11 hE
      exact hx1 _ (Option.some.inj hE).symm H locs cells slots ls hP hS hB (lv_sub hl [1, 2, 3] rfl)
    · have hE := iq c_11 hE
      refine lv_iinc (v := (a + (1 : Int32))) (lv' := [(4, .int (a + (1 : Int32))), (0, .ref (E.2.2.1 0)), (1, .int v1), (2, .int v2)]) hx hb dX0_sings_64 hl (k := 3) rfl rfl (Nat.le_of_ble_eq_true rfl) rfl (fun ls hl => ?_)
      refine lv_goto (tgt := 39) hx hb dX0_sings_67 (by decide) ?_
      exact hc _ (Option.some.inj hE).symm H locs cells slots ls hP hS hB (lv_sub hl [1, 2, 3, 0] rfl)
noncomputable def fX0_sings_J70 (k : Nat) (z : XS) (x1 : Int32) (x2 : Int32) (x4 : Int32) : Option (Int32 × XS) := if x1 = x2 then (some ((-1 : Int32), z)) else (some (x4, z))
set_option maxHeartbeats 1000000 in
theorem wX0_sings_J70 {p : Program} {l : Launch} {e : Env} {s : State} {m : MethodId} {args : Array Value} {below : List Frame} {meth : Method} {c : Code} {E : XE} (k : Nat) (z : XS) (x1 : Int32) (x2 : Int32) (x4 : Int32) (hC : xC E RX0 cX0_sings 5 (some .int) p s m args meth c) (y : Int32 × XS) (hE : fX0_sings_J70 k z x1 x2 x4 = some y) : xW p l e rmX0_sings s m args below meth c E 5 (xQ E rmX0_sings below args s (some (.int y.1)) y.2) 0 0 70 [(1, .int x1), (2, .int x2), (4, .int x4)] [] z := by
  intro H locs cells slots ls hP hS hB hl
  have hx := hC.1
  have hb := hC.2.1
  have hown := hC.2.2.2.2.2.1
  have hts := hC.2.2.2.2.2.2.1
  unfold fX0_sings_J70 at hE
  refine lv_iload_n hx hb dX0_sings_70 rfl (lv_at hl 0 rfl) ?_
  refine lv_iload_n hx hb dX0_sings_71 rfl (lv_at hl 1 rfl) ?_
  refine lv_icmp_ne (tgt := 79) hx hb dX0_sings_72 (by decide) (fun c_13 => ?_) (fun c_13 => ?_)
  · have hE := iq c_13 hE
    refine lv_iload hx hb dX0_sings_79 (lv_at hl 2 rfl) ?_
    obtain rfl := Option.some.inj hE
    exact x_iret hC hP hS hB dX0_sings_81
  · have hE := ip c_13 hE
    refine lv_iconst (v := -1) hx hb dX0_sings_75 (by decide) ?_
    refine lv_goto (tgt := 81) hx hb dX0_sings_76 (by decide) ?_
    obtain rfl := Option.some.inj hE
    exact x_iret hC hP hS hB dX0_sings_81
noncomputable def fX0_sings (k : Nat) (z : XS) (x1 : Int32) (x2 : Int32) (x3 : Int32) : Option (Int32 × XS) := (fX0_isPlace x1).bind fun r_1 => if r_1 = 0 then (some ((-1 : Int32), z)) else ((fX0_in x2 x1 (29 : Int32)).bind fun r_3 => if r_3 = 0 then (some ((-1 : Int32), z)) else ((fX0_laysCosts k z ).bind fun r_5 => if x3 = 0 then (if ib x1 30 then none else (if ib x2 30 then none else (some ((r_5.2.1 (26 + x1.toNatClampNeg) x2.toNatClampNeg), r_5)))) else ((lpo (fX0_sings_B39 k x1 x2 r_5) k x1).bind fun x_12 => (fX0_sings_J70 k r_5 x1 x2 x_12))))
set_option maxHeartbeats 1000000 in
theorem wX0_sings {l : Launch} {E : XE} (k : Nat) (z : XS) (x1 : Int32) (x2 : Int32) (x3 : Int32) (y : Int32 × XS) (hE : fX0_sings k z x1 x2 x3 = some y) : xM l yX0_sings (ws_ yX0_sings cX0_sings 5 (some .int)) rmX0_sings E z [.ref (E.2.2.1 0), .int x1, .int x2, .int x3] (some (.int y.1)) y.2 := by
  refine x_met (own := RX0) (by decide) rfl (Nat.le_of_ble_eq_true rfl) (fun p e s m args below meth c hC => ?_)
  intro H locs cells slots ls hP hS hB hl
  have hx := hC.1
  have hb := hC.2.1
  have hown := hC.2.2.2.2.2.1
  have hts := hC.2.2.2.2.2.2.1
  have hl : lv_has ls 5 [(0, .ref (E.2.2.1 0)), (1, .int x1), (2, .int x2), (3, .int x3)] := hl
  unfold fX0_sings at hE
  refine lv_iload_n hx hb dX0_sings_0 rfl (lv_at hl 1 rfl) ?_
  obtain ⟨r_1, h_1, hE⟩ := ob hE
  refine s_calli [.int x1] hC.sC hl.1 (wX0_isPlace x1 r_1 h_1) (va_cwS 1 hts lkX0_68 rfl rfl rfl cdX0_isPlace ⟨Nat.le_of_ble_eq_true rfl, Nat.le_of_ble_eq_true rfl⟩) rfl rfl (lv_room (Nat.le_of_ble_eq_true rfl)) (hB0 hB) dX0_sings_1 ?_
  refine lv_if_eq (tgt := 17) hx hb dX0_sings_4 (by decide) (fun c_2 => ?_) (fun c_2 => ?_)
  · have hE := ip c_2 hE
    refine lv_iconst (v := -1) hx hb dX0_sings_17 (by decide) ?_
    obtain rfl := Option.some.inj hE
    exact x_iret hC hP hS hB dX0_sings_18
  · have hE := iq c_2 hE
    refine lv_iload_n hx hb dX0_sings_7 rfl (lv_at hl 2 rfl) ?_
    refine lv_iload_n hx hb dX0_sings_8 rfl (lv_at hl 1 rfl) ?_
    refine lv_bipush (v := 29) hx hb dX0_sings_9 (by decide) ?_
    obtain ⟨r_3, h_3, hE⟩ := ob hE
    refine s_calli [.int x2, .int x1, .int (29 : Int32)] hC.sC hl.1 (wX0_in x2 x1 (29 : Int32) r_3 h_3) (va_cwS 3 hts lkX0_58 rfl rfl rfl cdX0_in ⟨Nat.le_of_ble_eq_true rfl, Nat.le_of_ble_eq_true rfl⟩) rfl rfl (lv_room (Nat.le_of_ble_eq_true rfl)) (hB0 hB) dX0_sings_11 ?_
    refine lv_if_ne (tgt := 19) hx hb dX0_sings_14 (by decide) (fun c_4 => ?_) (fun c_4 => ?_)
    · have hE := iq c_4 hE
      refine lv_aload_n hx hb dX0_sings_19 rfl (lv_at hl 0 rfl) ?_
      obtain ⟨r_5, h_5, hE⟩ := ob hE
      refine x_callV (rc1 := _) (rs1 := _) [] (E.2.2.1 0) hC hP hS hB hl.1 (wX0_laysCosts k z  r_5 h_5) (xC.c0 hC) (xw_get E _ (k := 0) (by decide)) (cwV 0 hts lkX0_349 rfl rfl rfl cdX0_laysCosts ⟨Nat.le_of_ble_eq_true rfl, Nat.le_of_ble_eq_true rfl⟩) rfl rfl (lv_room (Nat.le_of_ble_eq_true rfl)) ⟨Nat.le_of_eq (Nat.zero_add _), Nat.le_of_eq (Nat.zero_add _)⟩ dX0_sings_20 (fun H locs cells slots hP hS hB => ?_)
      show W p l e _ s m args below meth c H locs cells slots _ (F0 m _ ls ([]))
      refine lv_iload_n hx hb dX0_sings_23 rfl (lv_at hl 3 rfl) ?_
      refine lv_if_ne (tgt := 36) hx hb dX0_sings_24 (by decide) (fun c_6 => ?_) (fun c_6 => ?_)
      · have hE := iq c_6 hE
        refine lv_iload_n hx hb dX0_sings_36 rfl (lv_at hl 1 rfl) ?_
        refine lv_istore (lv' := [(4, .int x1), (0, .ref (E.2.2.1 0)), (1, .int x1), (2, .int x2), (3, .int x3)]) hx hb dX0_sings_37 hl (Nat.le_of_ble_eq_true rfl) rfl (fun ls hl => ?_)
        obtain ⟨x_12, h_12, hE⟩ := ob hE
        refine lpo_walk (fun p_12 : Int32 => xW p l e rmX0_sings s m args below meth c E 5 (xQ E rmX0_sings below args s (some (.int y.1)) y.2) 0 0 39 [(0, .ref (E.2.2.1 0)), (1, .int x1), (2, .int x2), (4, .int p_12)] [] r_5) (fun q_12 : Int32 => xW p l e rmX0_sings s m args below meth c E 5 (xQ E rmX0_sings below args s (some (.int y.1)) y.2) 0 0 70 [(1, .int x1), (2, .int x2), (4, .int q_12)] [] r_5) (fun a_12 y_12 hB_12 hc_12 hx_12 => wX0_sings_B39 k x1 x2 r_5 hC a_12 y_12 hB_12 hc_12 hx_12) _ _ x_12 h_12 ?_ H locs cells slots ls hP hS hB (lv_sub hl [1, 2, 3, 0] rfl)
        intro H locs cells slots ls hP hS hB hl
        exact wX0_sings_J70 k r_5 x1 x2 x_12 hC y hE H locs cells slots ls hP hS hB hl
      · have hE := ip c_6 hE
        refine lv_aload_n hx hb dX0_sings_27 rfl (lv_at hl 0 rfl) ?_
        refine gX_51 hC hP dX0_sings_28 ?_
        refine lv_iload_n hx hb dX0_sings_31 rfl (lv_at hl 1 rfl) ?_
        obtain ⟨c_14, hE⟩ := og hE
        refine x_aald hC hP xo_7 c_14 dX0_sings_32 ?_
        refine lv_iload_n hx hb dX0_sings_33 rfl (lv_at hl 2 rfl) ?_
        obtain ⟨c_15, hE⟩ := og hE
        refine x_iald hC hP (xrow xo_7 c_14) c_15 dX0_sings_34 ?_
        obtain rfl := Option.some.inj hE
        exact x_iret hC hP hS hB dX0_sings_35
    · have hE := ip c_4 hE
      refine lv_iconst (v := -1) hx hb dX0_sings_17 (by decide) ?_
      obtain rfl := Option.some.inj hE
      exact x_iret hC hP hS hB dX0_sings_18
noncomputable def fX0_visits_B22 (k : Nat) (v1 : Int32) (v2 : Int32) (w : XS) (a : Int32 × Int32) : Option ((Int32 × Int32) ⊕ Int32) := if (30 : Int32) ≤ a.2 then (some (.inr a.1)) else (if ib v1 7 then none else (nm (a.1 ||| ((1 : Int32) <<< (((v2 + (a.2 * (w.2.1 10 v1.toNatClampNeg))) - (v2 + (a.2 * (w.2.1 10 v1.toNatClampNeg))) / (30 : Int32) * (30 : Int32)) &&& 31))) fun v_7 => some (.inl (v_7, (a.2 + (1 : Int32))))))
set_option maxHeartbeats 1000000 in
theorem wX0_visits_B22 {p : Program} {l : Launch} {e : Env} {s : State} {m : MethodId} {args : Array Value} {below : List Frame} {meth : Method} {c : Code} {E : XE} {Q : State → Prop} (k : Nat) (v1 : Int32) (v2 : Int32) (w : XS) (hC : xC E RX0 cX0_visits 5 (some .int) p s m args meth c) (a : Int32 × Int32) (y : (Int32 × Int32) ⊕ Int32) (hE : fX0_visits_B22 k v1 v2 w a = some y) (hc : ∀ a : Int32 × Int32, y = .inl a → xW p l e rmX0_visits s m args below meth c E 5 Q 0 0 22 [(0, .ref (E.2.2.1 0)), (1, .int v1), (2, .int v2), (3, .int a.1), (4, .int a.2)] [] w) (hx1 : ∀ b : Int32, y = .inr b → xW p l e rmX0_visits s m args below meth c E 5 Q 0 0 57 [(3, .int b)] [] w) : xW p l e rmX0_visits s m args below meth c E 5 Q 0 0 22 [(0, .ref (E.2.2.1 0)), (1, .int v1), (2, .int v2), (3, .int a.1), (4, .int a.2)] [] w := by
  intro H locs cells slots ls hP hS hB hl
  have hx := hC.1
  have hb := hC.2.1
  have hown := hC.2.2.2.2.2.1
  have hts := hC.2.2.2.2.2.2.1
  unfold fX0_visits_B22 at hE
  refine lv_iload hx hb dX0_visits_22 (lv_at hl 4 rfl) ?_
  refine lv_bipush (v := 30) hx hb dX0_visits_24 (by decide) ?_
  refine lv_icmp_ge (tgt := 57) hx hb dX0_visits_26 (by decide) (fun c_5 => ?_) (fun c_5 => ?_)
  · have hE := ip c_5 hE
    exact hx1 _ (Option.some.inj hE).symm H locs cells slots ls hP hS hB (lv_sub hl [3] rfl)
  · have hE := iq c_5 hE
    refine lv_iload_n hx hb dX0_visits_29 rfl (lv_at hl 3 rfl) ?_
    refine lv_iconst (v := 1) hx hb dX0_visits_30 (by decide) ?_
    refine lv_iload_n hx hb dX0_visits_31 rfl (lv_at hl 2 rfl) ?_
    refine lv_iload hx hb dX0_visits_32 (lv_at hl 4 rfl) ?_
    refine lv_aload_n hx hb dX0_visits_34 rfl (lv_at hl 0 rfl) ?_
    refine gX_21 hC hP dX0_visits_35 ?_
    refine gN_76_1 hC hP dX0_visits_38 ?_
    refine lv_iload_n hx hb dX0_visits_41 rfl (lv_at hl 1 rfl) ?_
    obtain ⟨c_6, hE⟩ := og hE
    refine x_iald hC hP (⟨by decide, rfl, rfl⟩ : xint 10 7) c_6 dX0_visits_42 ?_
    refine lv_imul hx hb dX0_visits_43 ?_
    refine lv_iadd hx hb dX0_visits_44 ?_
    refine lv_bipush (v := 30) hx hb dX0_visits_45 (by decide) ?_
    refine lv_irem hx hb dX0_visits_47 (by decide) ?_
    refine lv_ishl hx hb dX0_visits_48 ?_
    refine lv_ior hx hb dX0_visits_49 ?_
    refine nm_i hE (fun v_7 ev_7 hE => ?_)
    refine lv_istore_n (lv' := [(3, .int v_7), (0, .ref (E.2.2.1 0)), (1, .int v1), (2, .int v2), (4, .int a.2)]) hx hb dX0_visits_50 rfl hl (Nat.le_of_ble_eq_true rfl) rfl (fun ls hl => ?_)
    refine lv_iinc (v := (a.2 + (1 : Int32))) (lv' := [(4, .int (a.2 + (1 : Int32))), (3, .int v_7), (0, .ref (E.2.2.1 0)), (1, .int v1), (2, .int v2)]) hx hb dX0_visits_51 hl (k := 4) rfl rfl (Nat.le_of_ble_eq_true rfl) rfl (fun ls hl => ?_)
    refine lv_goto (tgt := 22) hx hb dX0_visits_54 (by decide) ?_
    exact hc _ (Option.some.inj hE).symm H locs cells slots ls hP hS hB (lv_sub hl [2, 3, 4, 1, 0] rfl)
noncomputable def fX0_visits (k : Nat) (z : XS) (x1 : Int32) (x2 : Int32) : Option Int32 := (fX0_isChild z x1).bind fun r_1 => if r_1 = 0 then (some (-1 : Int32)) else ((fX0_isPlace x2).bind fun r_3 => if r_3 = 0 then (some (-1 : Int32)) else ((lpo (fX0_visits_B22 k x1 x2 z) k ((0 : Int32), (0 : Int32))).bind fun x_8 => some x_8))
set_option maxHeartbeats 1000000 in
theorem wX0_visits {l : Launch} {E : XE} (k : Nat) (z : XS) (x1 : Int32) (x2 : Int32) (y : Int32) (hE : fX0_visits k z x1 x2 = some y) : xM l yX0_visits (ws_ yX0_visits cX0_visits 5 (some .int)) rmX0_visits E z [.ref (E.2.2.1 0), .int x1, .int x2] (some (.int y)) z := by
  refine x_met (own := RX0) (by decide) rfl (Nat.le_of_ble_eq_true rfl) (fun p e s m args below meth c hC => ?_)
  intro H locs cells slots ls hP hS hB hl
  have hx := hC.1
  have hb := hC.2.1
  have hown := hC.2.2.2.2.2.1
  have hts := hC.2.2.2.2.2.2.1
  have hl : lv_has ls 5 [(0, .ref (E.2.2.1 0)), (1, .int x1), (2, .int x2)] := hl
  unfold fX0_visits at hE
  refine lv_aload_n hx hb dX0_visits_0 rfl (lv_at hl 0 rfl) ?_
  refine lv_iload_n hx hb dX0_visits_1 rfl (lv_at hl 1 rfl) ?_
  obtain ⟨r_1, h_1, hE⟩ := ob hE
  refine x_callV (rc1 := _) (rs1 := _) [.int x1] (E.2.2.1 0) hC hP hS hB hl.1 (wX0_isChild z x1 r_1 h_1) (xC.c0 hC) (xw_get E _ (k := 0) (by decide)) (cwV 1 hts lkX0_159 rfl rfl rfl cdX0_isChild ⟨Nat.le_of_ble_eq_true rfl, Nat.le_of_ble_eq_true rfl⟩) rfl rfl (lv_room (Nat.le_of_ble_eq_true rfl)) ⟨Nat.le_of_eq (Nat.zero_add _), Nat.le_of_eq (Nat.zero_add _)⟩ dX0_visits_2 (fun H locs cells slots hP hS hB => ?_)
  show W p l e _ s m args below meth c H locs cells slots _ (F0 m _ ls (.int r_1 :: []))
  refine lv_if_eq (tgt := 15) hx hb dX0_visits_5 (by decide) (fun c_2 => ?_) (fun c_2 => ?_)
  · have hE := ip c_2 hE
    refine lv_iconst (v := -1) hx hb dX0_visits_15 (by decide) ?_
    obtain rfl := Option.some.inj hE
    exact x_iret hC hP hS hB dX0_visits_16
  · have hE := iq c_2 hE
    refine lv_iload_n hx hb dX0_visits_8 rfl (lv_at hl 2 rfl) ?_
    obtain ⟨r_3, h_3, hE⟩ := ob hE
    refine s_calli [.int x2] hC.sC hl.1 (wX0_isPlace x2 r_3 h_3) (va_cwS 1 hts lkX0_68 rfl rfl rfl cdX0_isPlace ⟨Nat.le_of_ble_eq_true rfl, Nat.le_of_ble_eq_true rfl⟩) rfl rfl (lv_room (Nat.le_of_ble_eq_true rfl)) (hB0 hB) dX0_visits_9 ?_
    refine lv_if_ne (tgt := 17) hx hb dX0_visits_12 (by decide) (fun c_4 => ?_) (fun c_4 => ?_)
    · have hE := iq c_4 hE
      refine lv_iconst (v := 0) hx hb dX0_visits_17 (by decide) ?_
      refine lv_istore_n (lv' := [(3, .int (0 : Int32)), (0, .ref (E.2.2.1 0)), (1, .int x1), (2, .int x2)]) hx hb dX0_visits_18 rfl hl (Nat.le_of_ble_eq_true rfl) rfl (fun ls hl => ?_)
      refine lv_iconst (v := 0) hx hb dX0_visits_19 (by decide) ?_
      refine lv_istore (lv' := [(4, .int (0 : Int32)), (3, .int (0 : Int32)), (0, .ref (E.2.2.1 0)), (1, .int x1), (2, .int x2)]) hx hb dX0_visits_20 hl (Nat.le_of_ble_eq_true rfl) rfl (fun ls hl => ?_)
      obtain ⟨x_8, h_8, hE⟩ := ob hE
      refine lpo_walk (fun p_8 : Int32 × Int32 => xW p l e rmX0_visits s m args below meth c E 5 (xQ E rmX0_visits below args s (some (.int y)) z) 0 0 22 [(0, .ref (E.2.2.1 0)), (1, .int x1), (2, .int x2), (3, .int p_8.1), (4, .int p_8.2)] [] z) (fun q_8 : Int32 => xW p l e rmX0_visits s m args below meth c E 5 (xQ E rmX0_visits below args s (some (.int y)) z) 0 0 57 [(3, .int q_8)] [] z) (fun a_8 y_8 hB_8 hc_8 hx_8 => wX0_visits_B22 k x1 x2 z hC a_8 y_8 hB_8 hc_8 hx_8) _ _ x_8 h_8 ?_ H locs cells slots ls hP hS hB (lv_sub hl [2, 3, 4, 1, 0] rfl)
      intro H locs cells slots ls hP hS hB hl
      refine lv_iload_n hx hb dX0_visits_57 rfl (lv_at hl 0 rfl) ?_
      obtain rfl := Option.some.inj hE
      exact x_iret hC hP hS hB dX0_visits_58
    · have hE := ip c_4 hE
      refine lv_iconst (v := -1) hx hb dX0_visits_15 (by decide) ?_
      obtain rfl := Option.some.inj hE
      exact x_iret hC hP hS hB dX0_visits_16
noncomputable def fX0_meet_B36 (k : Nat) (v1 : Int32) (v2 : Int32) (v3 : Int32) (v4 : Int32) (w : XS) (a : Int32) : Option (Int32 ⊕ (Unit ⊕ Int32)) := if (30 : Int32) ≤ a then (some (.inr (.inl ()))) else (if ib v1 7 then none else (if ib v3 7 then none else (if ((((v2 + (a * (w.2.1 10 v1.toNatClampNeg))) - v4) - (a * (w.2.1 10 v3.toNatClampNeg))) - (((v2 + (a * (w.2.1 10 v1.toNatClampNeg))) - v4) - (a * (w.2.1 10 v3.toNatClampNeg))) / (30 : Int32) * (30 : Int32)) = 0 then (some (.inr (.inr a))) else (some (.inl (a + (1 : Int32)))))))
set_option maxHeartbeats 1000000 in
theorem wX0_meet_B36 {p : Program} {l : Launch} {e : Env} {s : State} {m : MethodId} {args : Array Value} {below : List Frame} {meth : Method} {c : Code} {E : XE} {Q : State → Prop} (k : Nat) (v1 : Int32) (v2 : Int32) (v3 : Int32) (v4 : Int32) (w : XS) (hC : xC E RX0 cX0_meet 6 (some .int) p s m args meth c) (a : Int32) (y : Int32 ⊕ (Unit ⊕ Int32)) (hE : fX0_meet_B36 k v1 v2 v3 v4 w a = some y) (hc : ∀ a : Int32, y = .inl a → xW p l e rmX0_meet s m args below meth c E 6 Q 0 0 36 [(0, .ref (E.2.2.1 0)), (1, .int v1), (2, .int v2), (3, .int v3), (4, .int v4), (5, .int a)] [] w) (hx1 : ∀ b : Unit, y = .inr (.inl b) → xW p l e rmX0_meet s m args below meth c E 6 Q 0 0 88 [] [] w) (hx2 : ∀ b : Int32, y = .inr (.inr b) → xW p l e rmX0_meet s m args below meth c E 6 Q 0 0 79 [(5, .int b)] [] w) : xW p l e rmX0_meet s m args below meth c E 6 Q 0 0 36 [(0, .ref (E.2.2.1 0)), (1, .int v1), (2, .int v2), (3, .int v3), (4, .int v4), (5, .int a)] [] w := by
  intro H locs cells slots ls hP hS hB hl
  have hx := hC.1
  have hb := hC.2.1
  have hown := hC.2.2.2.2.2.1
  have hts := hC.2.2.2.2.2.2.1
  unfold fX0_meet_B36 at hE
  refine lv_iload hx hb dX0_meet_36 (lv_at hl 5 rfl) ?_
  refine lv_bipush (v := 30) hx hb dX0_meet_38 (by decide) ?_
  refine lv_icmp_ge (tgt := 88) hx hb dX0_meet_40 (by decide) (fun c_9 => ?_) (fun c_9 => ?_)
  · have hE := ip c_9 hE
    exact hx1 _ (Option.some.inj hE).symm H locs cells slots ls hP hS hB (lv_sub hl [] rfl)
  · have hE := iq c_9 hE
    refine lv_iload_n hx hb dX0_meet_43 rfl (lv_at hl 2 rfl) ?_
    refine lv_iload hx hb dX0_meet_44 (lv_at hl 5 rfl) ?_
    refine lv_aload_n hx hb dX0_meet_46 rfl (lv_at hl 0 rfl) ?_
    refine gX_21 hC hP dX0_meet_47 ?_
    refine gN_76_1 hC hP dX0_meet_50 ?_
    refine lv_iload_n hx hb dX0_meet_53 rfl (lv_at hl 1 rfl) ?_
    obtain ⟨c_10, hE⟩ := og hE
    refine x_iald hC hP (⟨by decide, rfl, rfl⟩ : xint 10 7) c_10 dX0_meet_54 ?_
    refine lv_imul hx hb dX0_meet_55 ?_
    refine lv_iadd hx hb dX0_meet_56 ?_
    refine lv_iload hx hb dX0_meet_57 (lv_at hl 4 rfl) ?_
    refine lv_isub hx hb dX0_meet_59 ?_
    refine lv_iload hx hb dX0_meet_60 (lv_at hl 5 rfl) ?_
    refine lv_aload_n hx hb dX0_meet_62 rfl (lv_at hl 0 rfl) ?_
    refine gX_21 hC hP dX0_meet_63 ?_
    refine gN_76_1 hC hP dX0_meet_66 ?_
    refine lv_iload_n hx hb dX0_meet_69 rfl (lv_at hl 3 rfl) ?_
    obtain ⟨c_11, hE⟩ := og hE
    refine x_iald hC hP (⟨by decide, rfl, rfl⟩ : xint 10 7) c_11 dX0_meet_70 ?_
    refine lv_imul hx hb dX0_meet_71 ?_
    refine lv_isub hx hb dX0_meet_72 ?_
    refine lv_bipush (v := 30) hx hb dX0_meet_73 (by decide) ?_
    refine lv_irem hx hb dX0_meet_75 (by decide) ?_
    refine lv_if_ne (tgt := 82) hx hb dX0_meet_76 (by decide) (fun c_12 => ?_) (fun c_12 => ?_)
    · have hE := iq c_12 hE
      refine lv_iinc (v := (a + (1 : Int32))) (lv' := [(5, .int (a + (1 : Int32))), (0, .ref (E.2.2.1 0)), (1, .int v1), (2, .int v2), (3, .int v3), (4, .int v4)]) hx hb dX0_meet_82 hl (k := 5) rfl rfl (Nat.le_of_ble_eq_true rfl) rfl (fun ls hl => ?_)
      refine lv_goto (tgt := 36) hx hb dX0_meet_85 (by decide) ?_
      exact hc _ (Option.some.inj hE).symm H locs cells slots ls hP hS hB (lv_sub hl [1, 2, 3, 4, 5, 0] rfl)
    · have hE := ip c_12 hE
      exact hx2 _ (Option.some.inj hE).symm H locs cells slots ls hP hS hB (lv_sub hl [5] rfl)
noncomputable def fX0_meet (k : Nat) (z : XS) (x1 : Int32) (x2 : Int32) (x3 : Int32) (x4 : Int32) : Option Int32 := (fX0_isChild z x1).bind fun r_1 => if r_1 = 0 then (some (-1 : Int32)) else ((fX0_isPlace x2).bind fun r_3 => if r_3 = 0 then (some (-1 : Int32)) else ((fX0_isChild z x3).bind fun r_5 => if r_5 = 0 then (some (-1 : Int32)) else ((fX0_isPlace x4).bind fun r_7 => if r_7 = 0 then (some (-1 : Int32)) else ((lpo (fX0_meet_B36 k x1 x2 x3 x4 z) k (0 : Int32)).bind fun x_13 => (Sum.elim (fun t_13 : Unit => some (-1 : Int32)) (fun t_13 : Int32 => some t_13)) x_13))))
set_option maxHeartbeats 1000000 in
theorem wX0_meet {l : Launch} {E : XE} (k : Nat) (z : XS) (x1 : Int32) (x2 : Int32) (x3 : Int32) (x4 : Int32) (y : Int32) (hE : fX0_meet k z x1 x2 x3 x4 = some y) : xM l yX0_meet (ws_ yX0_meet cX0_meet 6 (some .int)) rmX0_meet E z [.ref (E.2.2.1 0), .int x1, .int x2, .int x3, .int x4] (some (.int y)) z := by
  refine x_met (own := RX0) (by decide) rfl (Nat.le_of_ble_eq_true rfl) (fun p e s m args below meth c hC => ?_)
  intro H locs cells slots ls hP hS hB hl
  have hx := hC.1
  have hb := hC.2.1
  have hown := hC.2.2.2.2.2.1
  have hts := hC.2.2.2.2.2.2.1
  have hl : lv_has ls 6 [(0, .ref (E.2.2.1 0)), (1, .int x1), (2, .int x2), (3, .int x3), (4, .int x4)] := hl
  unfold fX0_meet at hE
  refine lv_aload_n hx hb dX0_meet_0 rfl (lv_at hl 0 rfl) ?_
  refine lv_iload_n hx hb dX0_meet_1 rfl (lv_at hl 1 rfl) ?_
  obtain ⟨r_1, h_1, hE⟩ := ob hE
  refine x_callV (rc1 := _) (rs1 := _) [.int x1] (E.2.2.1 0) hC hP hS hB hl.1 (wX0_isChild z x1 r_1 h_1) (xC.c0 hC) (xw_get E _ (k := 0) (by decide)) (cwV 1 hts lkX0_159 rfl rfl rfl cdX0_isChild ⟨Nat.le_of_ble_eq_true rfl, Nat.le_of_ble_eq_true rfl⟩) rfl rfl (lv_room (Nat.le_of_ble_eq_true rfl)) ⟨Nat.le_of_eq (Nat.zero_add _), Nat.le_of_eq (Nat.zero_add _)⟩ dX0_meet_2 (fun H locs cells slots hP hS hB => ?_)
  show W p l e _ s m args below meth c H locs cells slots _ (F0 m _ ls (.int r_1 :: []))
  refine lv_if_eq (tgt := 31) hx hb dX0_meet_5 (by decide) (fun c_2 => ?_) (fun c_2 => ?_)
  · have hE := ip c_2 hE
    refine lv_iconst (v := -1) hx hb dX0_meet_31 (by decide) ?_
    obtain rfl := Option.some.inj hE
    exact x_iret hC hP hS hB dX0_meet_32
  · have hE := iq c_2 hE
    refine lv_iload_n hx hb dX0_meet_8 rfl (lv_at hl 2 rfl) ?_
    obtain ⟨r_3, h_3, hE⟩ := ob hE
    refine s_calli [.int x2] hC.sC hl.1 (wX0_isPlace x2 r_3 h_3) (va_cwS 1 hts lkX0_68 rfl rfl rfl cdX0_isPlace ⟨Nat.le_of_ble_eq_true rfl, Nat.le_of_ble_eq_true rfl⟩) rfl rfl (lv_room (Nat.le_of_ble_eq_true rfl)) (hB0 hB) dX0_meet_9 ?_
    refine lv_if_eq (tgt := 31) hx hb dX0_meet_12 (by decide) (fun c_4 => ?_) (fun c_4 => ?_)
    · have hE := ip c_4 hE
      refine lv_iconst (v := -1) hx hb dX0_meet_31 (by decide) ?_
      obtain rfl := Option.some.inj hE
      exact x_iret hC hP hS hB dX0_meet_32
    · have hE := iq c_4 hE
      refine lv_aload_n hx hb dX0_meet_15 rfl (lv_at hl 0 rfl) ?_
      refine lv_iload_n hx hb dX0_meet_16 rfl (lv_at hl 3 rfl) ?_
      obtain ⟨r_5, h_5, hE⟩ := ob hE
      refine x_callV (rc1 := _) (rs1 := _) [.int x3] (E.2.2.1 0) hC hP hS hB hl.1 (wX0_isChild z x3 r_5 h_5) (xC.c0 hC) (xw_get E _ (k := 0) (by decide)) (cwV 1 hts lkX0_159 rfl rfl rfl cdX0_isChild ⟨Nat.le_of_ble_eq_true rfl, Nat.le_of_ble_eq_true rfl⟩) rfl rfl (lv_room (Nat.le_of_ble_eq_true rfl)) ⟨Nat.le_of_eq (Nat.zero_add _), Nat.le_of_eq (Nat.zero_add _)⟩ dX0_meet_17 (fun H locs cells slots hP hS hB => ?_)
      show W p l e _ s m args below meth c H locs cells slots _ (F0 m _ ls (.int r_5 :: []))
      refine lv_if_eq (tgt := 31) hx hb dX0_meet_20 (by decide) (fun c_6 => ?_) (fun c_6 => ?_)
      · have hE := ip c_6 hE
        refine lv_iconst (v := -1) hx hb dX0_meet_31 (by decide) ?_
        obtain rfl := Option.some.inj hE
        exact x_iret hC hP hS hB dX0_meet_32
      · have hE := iq c_6 hE
        refine lv_iload hx hb dX0_meet_23 (lv_at hl 4 rfl) ?_
        obtain ⟨r_7, h_7, hE⟩ := ob hE
        refine s_calli [.int x4] hC.sC hl.1 (wX0_isPlace x4 r_7 h_7) (va_cwS 1 hts lkX0_68 rfl rfl rfl cdX0_isPlace ⟨Nat.le_of_ble_eq_true rfl, Nat.le_of_ble_eq_true rfl⟩) rfl rfl (lv_room (Nat.le_of_ble_eq_true rfl)) (hB0 hB) dX0_meet_25 ?_
        refine lv_if_ne (tgt := 33) hx hb dX0_meet_28 (by decide) (fun c_8 => ?_) (fun c_8 => ?_)
        · have hE := iq c_8 hE
          refine lv_iconst (v := 0) hx hb dX0_meet_33 (by decide) ?_
          refine lv_istore (lv' := [(5, .int (0 : Int32)), (0, .ref (E.2.2.1 0)), (1, .int x1), (2, .int x2), (3, .int x3), (4, .int x4)]) hx hb dX0_meet_34 hl (Nat.le_of_ble_eq_true rfl) rfl (fun ls hl => ?_)
          obtain ⟨x_13, h_13, hE⟩ := ob hE
          refine lpo_walk (fun p_13 : Int32 => xW p l e rmX0_meet s m args below meth c E 6 (xQ E rmX0_meet below args s (some (.int y)) z) 0 0 36 [(0, .ref (E.2.2.1 0)), (1, .int x1), (2, .int x2), (3, .int x3), (4, .int x4), (5, .int p_13)] [] z) (fun q_13 : (Unit ⊕ Int32) => (∀ t_13 : Unit, q_13 = (.inl t_13) → xW p l e rmX0_meet s m args below meth c E 6 (xQ E rmX0_meet below args s (some (.int y)) z) 0 0 88 [] [] z) ∧ (∀ t_13 : Int32, q_13 = (.inr t_13) → xW p l e rmX0_meet s m args below meth c E 6 (xQ E rmX0_meet below args s (some (.int y)) z) 0 0 79 [(5, .int t_13)] [] z)) (fun a_13 y_13 hB_13 hc_13 hx_13 => wX0_meet_B36 k x1 x2 x3 x4 z hC a_13 y_13 hB_13 hc_13 (fun t_13 e_13 => (hx_13 _ e_13).1 t_13 rfl) (fun t_13 e_13 => (hx_13 _ e_13).2 t_13 rfl)) _ _ x_13 h_13 ?_ H locs cells slots ls hP hS hB (lv_sub hl [1, 2, 3, 4, 5, 0] rfl)
          refine ⟨?_, ?_⟩
          · intro t_13 e_13
            subst e_13
            have hE := oel hE
            intro H locs cells slots ls hP hS hB hl
            refine lv_iconst (v := -1) hx hb dX0_meet_88 (by decide) ?_
            obtain rfl := Option.some.inj hE
            exact x_iret hC hP hS hB dX0_meet_89
          · intro t_13 e_13
            subst e_13
            have hE := oer hE
            intro H locs cells slots ls hP hS hB hl
            refine lv_iload hx hb dX0_meet_79 (lv_at hl 0 rfl) ?_
            obtain rfl := Option.some.inj hE
            exact x_iret hC hP hS hB dX0_meet_81
        · have hE := ip c_8 hE
          refine lv_iconst (v := -1) hx hb dX0_meet_31 (by decide) ?_
          obtain rfl := Option.some.inj hE
          exact x_iret hC hP hS hB dX0_meet_32
noncomputable def fX0_isTurn_B2 (k : Nat) (v1 : Int32) (w : XS) (a : Int32) : Option (Int32 ⊕ (Unit ⊕ Unit)) := if (30 : Int32) ≤ a then (some (.inr (.inl ()))) else ((fX0_kindAt w a).bind fun r_2 => (fX0_kindAt w ((a + v1) - (a + v1) / (30 : Int32) * (30 : Int32))).bind fun r_3 => if r_2 = r_3 then (some (.inl (a + (1 : Int32)))) else (some (.inr (.inr ()))))
set_option maxHeartbeats 1000000 in
theorem wX0_isTurn_B2 {p : Program} {l : Launch} {e : Env} {s : State} {m : MethodId} {args : Array Value} {below : List Frame} {meth : Method} {c : Code} {E : XE} {Q : State → Prop} (k : Nat) (v1 : Int32) (w : XS) (hC : xC E RX0 cX0_isTurn 3 (some .boolean) p s m args meth c) (a : Int32) (y : Int32 ⊕ (Unit ⊕ Unit)) (hE : fX0_isTurn_B2 k v1 w a = some y) (hc : ∀ a : Int32, y = .inl a → xW p l e rmX0_isTurn s m args below meth c E 3 Q 0 0 2 [(0, .ref (E.2.2.1 0)), (1, .int v1), (2, .int a)] [] w) (hx1 : ∀ b : Unit, y = .inr (.inl b) → xW p l e rmX0_isTurn s m args below meth c E 3 Q 0 0 34 [] [] w) (hx2 : ∀ b : Unit, y = .inr (.inr b) → xW p l e rmX0_isTurn s m args below meth c E 3 Q 0 0 26 [] [] w) : xW p l e rmX0_isTurn s m args below meth c E 3 Q 0 0 2 [(0, .ref (E.2.2.1 0)), (1, .int v1), (2, .int a)] [] w := by
  intro H locs cells slots ls hP hS hB hl
  have hx := hC.1
  have hb := hC.2.1
  have hown := hC.2.2.2.2.2.1
  have hts := hC.2.2.2.2.2.2.1
  unfold fX0_isTurn_B2 at hE
  refine lv_iload_n hx hb dX0_isTurn_2 rfl (lv_at hl 2 rfl) ?_
  refine lv_bipush (v := 30) hx hb dX0_isTurn_3 (by decide) ?_
  refine lv_icmp_ge (tgt := 34) hx hb dX0_isTurn_5 (by decide) (fun c_1 => ?_) (fun c_1 => ?_)
  · have hE := ip c_1 hE
    exact hx1 _ (Option.some.inj hE).symm H locs cells slots ls hP hS hB (lv_sub hl [] rfl)
  · have hE := iq c_1 hE
    refine lv_aload_n hx hb dX0_isTurn_8 rfl (lv_at hl 0 rfl) ?_
    refine lv_iload_n hx hb dX0_isTurn_9 rfl (lv_at hl 2 rfl) ?_
    obtain ⟨r_2, h_2, hE⟩ := ob hE
    refine x_callV (rc1 := _) (rs1 := _) [.int a] (E.2.2.1 0) hC hP hS hB hl.1 (wX0_kindAt w a r_2 h_2) (xC.c0 hC) (xw_get E _ (k := 0) (by decide)) (cwV 1 hts lkX0_172 rfl rfl rfl cdX0_kindAt ⟨Nat.le_of_ble_eq_true rfl, Nat.le_of_ble_eq_true rfl⟩) rfl rfl (lv_room (Nat.le_of_ble_eq_true rfl)) ⟨Nat.le_of_eq (Nat.zero_add _), Nat.le_of_eq (Nat.zero_add _)⟩ dX0_isTurn_10 (fun H locs cells slots hP hS hB => ?_)
    show W p l e _ s m args below meth c H locs cells slots _ (F0 m _ ls (.int r_2 :: []))
    refine lv_aload_n hx hb dX0_isTurn_13 rfl (lv_at hl 0 rfl) ?_
    refine lv_iload_n hx hb dX0_isTurn_14 rfl (lv_at hl 2 rfl) ?_
    refine lv_iload_n hx hb dX0_isTurn_15 rfl (lv_at hl 1 rfl) ?_
    refine lv_iadd hx hb dX0_isTurn_16 ?_
    refine lv_bipush (v := 30) hx hb dX0_isTurn_17 (by decide) ?_
    refine lv_irem hx hb dX0_isTurn_19 (by decide) ?_
    obtain ⟨r_3, h_3, hE⟩ := ob hE
    refine x_callV (rc1 := _) (rs1 := _) [.int ((a + v1) - (a + v1) / (30 : Int32) * (30 : Int32))] (E.2.2.1 0) hC hP hS hB hl.1 (wX0_kindAt w ((a + v1) - (a + v1) / (30 : Int32) * (30 : Int32)) r_3 h_3) (xC.c0 hC) (xw_get E _ (k := 0) (by decide)) (cwV 1 hts lkX0_172 rfl rfl rfl cdX0_kindAt ⟨Nat.le_of_ble_eq_true rfl, Nat.le_of_ble_eq_true rfl⟩) rfl rfl (lv_room (Nat.le_of_ble_eq_true rfl)) ⟨Nat.le_of_eq (Nat.zero_add _), Nat.le_of_eq (Nat.zero_add _)⟩ dX0_isTurn_20 (fun H locs cells slots hP hS hB => ?_)
    show W p l e _ s m args below meth c H locs cells slots _ (F0 m _ ls (.int r_3 :: .int r_2 :: []))
    refine lv_icmp_eq (tgt := 28) hx hb dX0_isTurn_23 (by decide) (fun c_4 => ?_) (fun c_4 => ?_)
    · have hE := ip c_4 hE
      refine lv_iinc (v := (a + (1 : Int32))) (lv' := [(2, .int (a + (1 : Int32))), (0, .ref (E.2.2.1 0)), (1, .int v1)]) hx hb dX0_isTurn_28 hl (k := 2) rfl rfl (Nat.le_of_ble_eq_true rfl) rfl (fun ls hl => ?_)
      refine lv_goto (tgt := 2) hx hb dX0_isTurn_31 (by decide) ?_
      exact hc _ (Option.some.inj hE).symm H locs cells slots ls hP hS hB (lv_sub hl [1, 2, 0] rfl)
    · have hE := iq c_4 hE
      exact hx2 _ (Option.some.inj hE).symm H locs cells slots ls hP hS hB (lv_sub hl [] rfl)
noncomputable def fX0_isTurn (k : Nat) (z : XS) (x1 : Int32) : Option Int32 := (lpo (fX0_isTurn_B2 k x1 z) k (0 : Int32)).bind fun x_5 => (Sum.elim (fun t_5 : Unit => some (1 : Int32)) (fun t_5 : Unit => some (0 : Int32))) x_5
set_option maxHeartbeats 1000000 in
theorem wX0_isTurn {l : Launch} {E : XE} (k : Nat) (z : XS) (x1 : Int32) (y : Int32) (hE : fX0_isTurn k z x1 = some y) : xM l yX0_isTurn (ws_ yX0_isTurn cX0_isTurn 3 (some .boolean)) rmX0_isTurn E z [.ref (E.2.2.1 0), .int x1] (some (.int y)) z := by
  refine x_met (own := RX0) (by decide) rfl (Nat.le_of_ble_eq_true rfl) (fun p e s m args below meth c hC => ?_)
  intro H locs cells slots ls hP hS hB hl
  have hx := hC.1
  have hb := hC.2.1
  have hown := hC.2.2.2.2.2.1
  have hts := hC.2.2.2.2.2.2.1
  have hl : lv_has ls 3 [(0, .ref (E.2.2.1 0)), (1, .int x1)] := hl
  unfold fX0_isTurn at hE
  refine lv_iconst (v := 0) hx hb dX0_isTurn_0 (by decide) ?_
  refine lv_istore_n (lv' := [(2, .int (0 : Int32)), (0, .ref (E.2.2.1 0)), (1, .int x1)]) hx hb dX0_isTurn_1 rfl hl (Nat.le_of_ble_eq_true rfl) rfl (fun ls hl => ?_)
  obtain ⟨x_5, h_5, hE⟩ := ob hE
  refine lpo_walk (fun p_5 : Int32 => xW p l e rmX0_isTurn s m args below meth c E 3 (xQ E rmX0_isTurn below args s (some (.int y)) z) 0 0 2 [(0, .ref (E.2.2.1 0)), (1, .int x1), (2, .int p_5)] [] z) (fun q_5 : (Unit ⊕ Unit) => (∀ t_5 : Unit, q_5 = (.inl t_5) → xW p l e rmX0_isTurn s m args below meth c E 3 (xQ E rmX0_isTurn below args s (some (.int y)) z) 0 0 34 [] [] z) ∧ (∀ t_5 : Unit, q_5 = (.inr t_5) → xW p l e rmX0_isTurn s m args below meth c E 3 (xQ E rmX0_isTurn below args s (some (.int y)) z) 0 0 26 [] [] z)) (fun a_5 y_5 hB_5 hc_5 hx_5 => wX0_isTurn_B2 k x1 z hC a_5 y_5 hB_5 hc_5 (fun t_5 e_5 => (hx_5 _ e_5).1 t_5 rfl) (fun t_5 e_5 => (hx_5 _ e_5).2 t_5 rfl)) _ _ x_5 h_5 ?_ H locs cells slots ls hP hS hB (lv_sub hl [1, 2, 0] rfl)
  refine ⟨?_, ?_⟩
  · intro t_5 e_5
    subst e_5
    have hE := oel hE
    intro H locs cells slots ls hP hS hB hl
    refine lv_iconst (v := 1) hx hb dX0_isTurn_34 (by decide) ?_
    obtain rfl := Option.some.inj hE
    exact x_zret (v := (1 : Int32)) hC hP hS hB (by decide) dX0_isTurn_35
  · intro t_5 e_5
    subst e_5
    have hE := oer hE
    intro H locs cells slots ls hP hS hB hl
    refine lv_iconst (v := 0) hx hb dX0_isTurn_26 (by decide) ?_
    obtain rfl := Option.some.inj hE
    exact x_zret (v := (0 : Int32)) hC hP hS hB (by decide) dX0_isTurn_27
noncomputable def fX0_period_B2 (k : Nat)  (w : XS) (a : Int32) : Option (Int32 ⊕ Int32) := (fX0_isTurn k w a).bind fun r_1 => if r_1 = 0 then (some (.inl (a + (1 : Int32)))) else (some (.inr a))
set_option maxHeartbeats 1000000 in
theorem wX0_period_B2 {p : Program} {l : Launch} {e : Env} {s : State} {m : MethodId} {args : Array Value} {below : List Frame} {meth : Method} {c : Code} {E : XE} {Q : State → Prop} (k : Nat)  (w : XS) (hC : xC E RX0 cX0_period 2 (some .int) p s m args meth c) (a : Int32) (y : Int32 ⊕ Int32) (hE : fX0_period_B2 k  w a = some y) (hc : ∀ a : Int32, y = .inl a → xW p l e rmX0_period s m args below meth c E 2 Q 0 0 2 [(0, .ref (E.2.2.1 0)), (1, .int a)] [] w) (hx1 : ∀ b : Int32, y = .inr b → xW p l e rmX0_period s m args below meth c E 2 Q 0 0 16 [(1, .int b)] [] w) : xW p l e rmX0_period s m args below meth c E 2 Q 0 0 2 [(0, .ref (E.2.2.1 0)), (1, .int a)] [] w := by
  intro H locs cells slots ls hP hS hB hl
  have hx := hC.1
  have hb := hC.2.1
  have hown := hC.2.2.2.2.2.1
  have hts := hC.2.2.2.2.2.2.1
  unfold fX0_period_B2 at hE
  refine lv_aload_n hx hb dX0_period_2 rfl (lv_at hl 0 rfl) ?_
  refine lv_iload_n hx hb dX0_period_3 rfl (lv_at hl 1 rfl) ?_
  obtain ⟨r_1, h_1, hE⟩ := ob hE
  refine x_callV (rc1 := _) (rs1 := _) [.int a] (E.2.2.1 0) hC hP hS hB hl.1 (wX0_isTurn k w a r_1 h_1) (xC.c0 hC) (xw_get E _ (k := 0) (by decide)) (cwV 1 hts lkX0_352 rfl rfl rfl cdX0_isTurn ⟨Nat.le_of_ble_eq_true rfl, Nat.le_of_ble_eq_true rfl⟩) rfl rfl (lv_room (Nat.le_of_ble_eq_true rfl)) ⟨Nat.le_of_eq (Nat.zero_add _), Nat.le_of_eq (Nat.zero_add _)⟩ dX0_period_4 (fun H locs cells slots hP hS hB => ?_)
  show W p l e _ s m args below meth c H locs cells slots _ (F0 m _ ls (.int r_1 :: []))
  refine lv_if_ne (tgt := 16) hx hb dX0_period_7 (by decide) (fun c_2 => ?_) (fun c_2 => ?_)
  · have hE := iq c_2 hE
    exact hx1 _ (Option.some.inj hE).symm H locs cells slots ls hP hS hB (lv_sub hl [1] rfl)
  · have hE := ip c_2 hE
    refine lv_iinc (v := (a + (1 : Int32))) (lv' := [(1, .int (a + (1 : Int32))), (0, .ref (E.2.2.1 0))]) hx hb dX0_period_10 hl (k := 1) rfl rfl (Nat.le_of_ble_eq_true rfl) rfl (fun ls hl => ?_)
    refine lv_goto (tgt := 2) hx hb dX0_period_13 (by decide) ?_
    exact hc _ (Option.some.inj hE).symm H locs cells slots ls hP hS hB (lv_sub hl [1, 0] rfl)
noncomputable def fX0_period (k : Nat) (z : XS)  : Option Int32 := (lpo (fX0_period_B2 k  z) k (1 : Int32)).bind fun x_3 => some x_3
set_option maxHeartbeats 1000000 in
theorem wX0_period {l : Launch} {E : XE} (k : Nat) (z : XS)  (y : Int32) (hE : fX0_period k z  = some y) : xM l yX0_period (ws_ yX0_period cX0_period 2 (some .int)) rmX0_period E z [.ref (E.2.2.1 0)] (some (.int y)) z := by
  refine x_met (own := RX0) (by decide) rfl (Nat.le_of_ble_eq_true rfl) (fun p e s m args below meth c hC => ?_)
  intro H locs cells slots ls hP hS hB hl
  have hx := hC.1
  have hb := hC.2.1
  have hown := hC.2.2.2.2.2.1
  have hts := hC.2.2.2.2.2.2.1
  have hl : lv_has ls 2 [(0, .ref (E.2.2.1 0))] := hl
  unfold fX0_period at hE
  refine lv_iconst (v := 1) hx hb dX0_period_0 (by decide) ?_
  refine lv_istore_n (lv' := [(1, .int (1 : Int32)), (0, .ref (E.2.2.1 0))]) hx hb dX0_period_1 rfl hl (Nat.le_of_ble_eq_true rfl) rfl (fun ls hl => ?_)
  obtain ⟨x_3, h_3, hE⟩ := ob hE
  refine lpo_walk (fun p_3 : Int32 => xW p l e rmX0_period s m args below meth c E 2 (xQ E rmX0_period below args s (some (.int y)) z) 0 0 2 [(0, .ref (E.2.2.1 0)), (1, .int p_3)] [] z) (fun q_3 : Int32 => xW p l e rmX0_period s m args below meth c E 2 (xQ E rmX0_period below args s (some (.int y)) z) 0 0 16 [(1, .int q_3)] [] z) (fun a_3 y_3 hB_3 hc_3 hx_3 => wX0_period_B2 k  z hC a_3 y_3 hB_3 hc_3 hx_3) _ _ x_3 h_3 ?_ H locs cells slots ls hP hS hB (lv_sub hl [1, 0] rfl)
  intro H locs cells slots ls hP hS hB hl
  refine lv_iload_n hx hb dX0_period_16 rfl (lv_at hl 0 rfl) ?_
  obtain rfl := Option.some.inj hE
  exact x_iret hC hP hS hB dX0_period_17
noncomputable def fX0_moreFrom_B2 (k : Nat) (v1 : Int32) (v2 : Int32) (w : XS) (a : Int32) : Option (Int32 ⊕ (Unit ⊕ Int32)) := if (30 : Int32) ≤ a then (some (.inr (.inl ()))) else ((fX0_kindAt w ((v1 + a) - (v1 + a) / (30 : Int32) * (30 : Int32))).bind fun r_2 => (fX0_kindAt w ((v2 + a) - (v2 + a) / (30 : Int32) * (30 : Int32))).bind fun r_3 => if (r_2 - r_3) = 0 then (some (.inl (a + (1 : Int32)))) else (some (.inr (.inr (r_2 - r_3)))))
set_option maxHeartbeats 1000000 in
theorem wX0_moreFrom_B2 {p : Program} {l : Launch} {e : Env} {s : State} {m : MethodId} {args : Array Value} {below : List Frame} {meth : Method} {c : Code} {E : XE} {Q : State → Prop} (k : Nat) (v1 : Int32) (v2 : Int32) (w : XS) (hC : xC E RX0 cX0_moreFrom 5 (some .int) p s m args meth c) (a : Int32) (y : Int32 ⊕ (Unit ⊕ Int32)) (hE : fX0_moreFrom_B2 k v1 v2 w a = some y) (hc : ∀ a : Int32, y = .inl a → xW p l e rmX0_moreFrom s m args below meth c E 5 Q 0 0 2 [(0, .ref (E.2.2.1 0)), (1, .int v1), (2, .int v2), (3, .int a)] [] w) (hx1 : ∀ b : Unit, y = .inr (.inl b) → xW p l e rmX0_moreFrom s m args below meth c E 5 Q 0 0 45 [] [] w) (hx2 : ∀ b : Int32, y = .inr (.inr b) → xW p l e rmX0_moreFrom s m args below meth c E 5 Q 0 0 36 [(4, .int b)] [] w) : xW p l e rmX0_moreFrom s m args below meth c E 5 Q 0 0 2 [(0, .ref (E.2.2.1 0)), (1, .int v1), (2, .int v2), (3, .int a)] [] w := by
  intro H locs cells slots ls hP hS hB hl
  have hx := hC.1
  have hb := hC.2.1
  have hown := hC.2.2.2.2.2.1
  have hts := hC.2.2.2.2.2.2.1
  unfold fX0_moreFrom_B2 at hE
  refine lv_iload_n hx hb dX0_moreFrom_2 rfl (lv_at hl 3 rfl) ?_
  refine lv_bipush (v := 30) hx hb dX0_moreFrom_3 (by decide) ?_
  refine lv_icmp_ge (tgt := 45) hx hb dX0_moreFrom_5 (by decide) (fun c_1 => ?_) (fun c_1 => ?_)
  · have hE := ip c_1 hE
    exact hx1 _ (Option.some.inj hE).symm H locs cells slots ls hP hS hB (lv_sub hl [] rfl)
  · have hE := iq c_1 hE
    refine lv_aload_n hx hb dX0_moreFrom_8 rfl (lv_at hl 0 rfl) ?_
    refine lv_iload_n hx hb dX0_moreFrom_9 rfl (lv_at hl 1 rfl) ?_
    refine lv_iload_n hx hb dX0_moreFrom_10 rfl (lv_at hl 3 rfl) ?_
    refine lv_iadd hx hb dX0_moreFrom_11 ?_
    refine lv_bipush (v := 30) hx hb dX0_moreFrom_12 (by decide) ?_
    refine lv_irem hx hb dX0_moreFrom_14 (by decide) ?_
    obtain ⟨r_2, h_2, hE⟩ := ob hE
    refine x_callV (rc1 := _) (rs1 := _) [.int ((v1 + a) - (v1 + a) / (30 : Int32) * (30 : Int32))] (E.2.2.1 0) hC hP hS hB hl.1 (wX0_kindAt w ((v1 + a) - (v1 + a) / (30 : Int32) * (30 : Int32)) r_2 h_2) (xC.c0 hC) (xw_get E _ (k := 0) (by decide)) (cwV 1 hts lkX0_172 rfl rfl rfl cdX0_kindAt ⟨Nat.le_of_ble_eq_true rfl, Nat.le_of_ble_eq_true rfl⟩) rfl rfl (lv_room (Nat.le_of_ble_eq_true rfl)) ⟨Nat.le_of_eq (Nat.zero_add _), Nat.le_of_eq (Nat.zero_add _)⟩ dX0_moreFrom_15 (fun H locs cells slots hP hS hB => ?_)
    show W p l e _ s m args below meth c H locs cells slots _ (F0 m _ ls (.int r_2 :: []))
    refine lv_aload_n hx hb dX0_moreFrom_18 rfl (lv_at hl 0 rfl) ?_
    refine lv_iload_n hx hb dX0_moreFrom_19 rfl (lv_at hl 2 rfl) ?_
    refine lv_iload_n hx hb dX0_moreFrom_20 rfl (lv_at hl 3 rfl) ?_
    refine lv_iadd hx hb dX0_moreFrom_21 ?_
    refine lv_bipush (v := 30) hx hb dX0_moreFrom_22 (by decide) ?_
    refine lv_irem hx hb dX0_moreFrom_24 (by decide) ?_
    obtain ⟨r_3, h_3, hE⟩ := ob hE
    refine x_callV (rc1 := _) (rs1 := _) [.int ((v2 + a) - (v2 + a) / (30 : Int32) * (30 : Int32))] (E.2.2.1 0) hC hP hS hB hl.1 (wX0_kindAt w ((v2 + a) - (v2 + a) / (30 : Int32) * (30 : Int32)) r_3 h_3) (xC.c0 hC) (xw_get E _ (k := 0) (by decide)) (cwV 1 hts lkX0_172 rfl rfl rfl cdX0_kindAt ⟨Nat.le_of_ble_eq_true rfl, Nat.le_of_ble_eq_true rfl⟩) rfl rfl (lv_room (Nat.le_of_ble_eq_true rfl)) ⟨Nat.le_of_eq (Nat.zero_add _), Nat.le_of_eq (Nat.zero_add _)⟩ dX0_moreFrom_25 (fun H locs cells slots hP hS hB => ?_)
    show W p l e _ s m args below meth c H locs cells slots _ (F0 m _ ls (.int r_3 :: .int r_2 :: []))
    refine lv_isub hx hb dX0_moreFrom_28 ?_
    refine lv_istore (lv' := [(4, .int (r_2 - r_3)), (0, .ref (E.2.2.1 0)), (1, .int v1), (2, .int v2), (3, .int a)]) hx hb dX0_moreFrom_29 hl (Nat.le_of_ble_eq_true rfl) rfl (fun ls hl => ?_)
    refine lv_iload hx hb dX0_moreFrom_31 (lv_at hl 0 rfl) ?_
    refine lv_if_eq (tgt := 39) hx hb dX0_moreFrom_33 (by decide) (fun c_4 => ?_) (fun c_4 => ?_)
    · have hE := ip c_4 hE
      refine lv_iinc (v := (a + (1 : Int32))) (lv' := [(3, .int (a + (1 : Int32))), (4, .int (r_2 - r_3)), (0, .ref (E.2.2.1 0)), (1, .int v1), (2, .int v2)]) hx hb dX0_moreFrom_39 hl (k := 4) rfl rfl (Nat.le_of_ble_eq_true rfl) rfl (fun ls hl => ?_)
      refine lv_goto (tgt := 2) hx hb dX0_moreFrom_42 (by decide) ?_
      exact hc _ (Option.some.inj hE).symm H locs cells slots ls hP hS hB (lv_sub hl [2, 3, 4, 0] rfl)
    · have hE := iq c_4 hE
      exact hx2 _ (Option.some.inj hE).symm H locs cells slots ls hP hS hB (lv_sub hl [0] rfl)
noncomputable def fX0_moreFrom (k : Nat) (z : XS) (x1 : Int32) (x2 : Int32) : Option Int32 := (lpo (fX0_moreFrom_B2 k x1 x2 z) k (0 : Int32)).bind fun x_5 => (Sum.elim (fun t_5 : Unit => some (0 : Int32)) (fun t_5 : Int32 => some t_5)) x_5
set_option maxHeartbeats 1000000 in
theorem wX0_moreFrom {l : Launch} {E : XE} (k : Nat) (z : XS) (x1 : Int32) (x2 : Int32) (y : Int32) (hE : fX0_moreFrom k z x1 x2 = some y) : xM l yX0_moreFrom (ws_ yX0_moreFrom cX0_moreFrom 5 (some .int)) rmX0_moreFrom E z [.ref (E.2.2.1 0), .int x1, .int x2] (some (.int y)) z := by
  refine x_met (own := RX0) (by decide) rfl (Nat.le_of_ble_eq_true rfl) (fun p e s m args below meth c hC => ?_)
  intro H locs cells slots ls hP hS hB hl
  have hx := hC.1
  have hb := hC.2.1
  have hown := hC.2.2.2.2.2.1
  have hts := hC.2.2.2.2.2.2.1
  have hl : lv_has ls 5 [(0, .ref (E.2.2.1 0)), (1, .int x1), (2, .int x2)] := hl
  unfold fX0_moreFrom at hE
  refine lv_iconst (v := 0) hx hb dX0_moreFrom_0 (by decide) ?_
  refine lv_istore_n (lv' := [(3, .int (0 : Int32)), (0, .ref (E.2.2.1 0)), (1, .int x1), (2, .int x2)]) hx hb dX0_moreFrom_1 rfl hl (Nat.le_of_ble_eq_true rfl) rfl (fun ls hl => ?_)
  obtain ⟨x_5, h_5, hE⟩ := ob hE
  refine lpo_walk (fun p_5 : Int32 => xW p l e rmX0_moreFrom s m args below meth c E 5 (xQ E rmX0_moreFrom below args s (some (.int y)) z) 0 0 2 [(0, .ref (E.2.2.1 0)), (1, .int x1), (2, .int x2), (3, .int p_5)] [] z) (fun q_5 : (Unit ⊕ Int32) => (∀ t_5 : Unit, q_5 = (.inl t_5) → xW p l e rmX0_moreFrom s m args below meth c E 5 (xQ E rmX0_moreFrom below args s (some (.int y)) z) 0 0 45 [] [] z) ∧ (∀ t_5 : Int32, q_5 = (.inr t_5) → xW p l e rmX0_moreFrom s m args below meth c E 5 (xQ E rmX0_moreFrom below args s (some (.int y)) z) 0 0 36 [(4, .int t_5)] [] z)) (fun a_5 y_5 hB_5 hc_5 hx_5 => wX0_moreFrom_B2 k x1 x2 z hC a_5 y_5 hB_5 hc_5 (fun t_5 e_5 => (hx_5 _ e_5).1 t_5 rfl) (fun t_5 e_5 => (hx_5 _ e_5).2 t_5 rfl)) _ _ x_5 h_5 ?_ H locs cells slots ls hP hS hB (lv_sub hl [1, 2, 3, 0] rfl)
  refine ⟨?_, ?_⟩
  · intro t_5 e_5
    subst e_5
    have hE := oel hE
    intro H locs cells slots ls hP hS hB hl
    refine lv_iconst (v := 0) hx hb dX0_moreFrom_45 (by decide) ?_
    obtain rfl := Option.some.inj hE
    exact x_iret hC hP hS hB dX0_moreFrom_46
  · intro t_5 e_5
    subst e_5
    have hE := oer hE
    intro H locs cells slots ls hP hS hB hl
    refine lv_iload hx hb dX0_moreFrom_36 (lv_at hl 0 rfl) ?_
    obtain rfl := Option.some.inj hE
    exact x_iret hC hP hS hB dX0_moreFrom_38
noncomputable def fX0_least_B4 (k : Nat)  (w : XS) (a : Int32 × Int32) : Option ((Int32 × Int32) ⊕ Int32) := if (30 : Int32) ≤ a.2 then (some (.inr a.1)) else ((fX0_moreFrom k w a.2 a.1).bind fun r_2 => if 0 ≤ r_2 then (some (.inl (a.1, (a.2 + (1 : Int32))))) else (some (.inl (a.2, (a.2 + (1 : Int32))))))
set_option maxHeartbeats 1000000 in
theorem wX0_least_B4 {p : Program} {l : Launch} {e : Env} {s : State} {m : MethodId} {args : Array Value} {below : List Frame} {meth : Method} {c : Code} {E : XE} {Q : State → Prop} (k : Nat)  (w : XS) (hC : xC E RX0 cX0_least 3 (some .int) p s m args meth c) (a : Int32 × Int32) (y : (Int32 × Int32) ⊕ Int32) (hE : fX0_least_B4 k  w a = some y) (hc : ∀ a : Int32 × Int32, y = .inl a → xW p l e rmX0_least s m args below meth c E 3 Q 0 0 4 [(0, .ref (E.2.2.1 0)), (1, .int a.1), (2, .int a.2)] [] w) (hx1 : ∀ b : Int32, y = .inr b → xW p l e rmX0_least s m args below meth c E 3 Q 0 0 27 [(1, .int b)] [] w) : xW p l e rmX0_least s m args below meth c E 3 Q 0 0 4 [(0, .ref (E.2.2.1 0)), (1, .int a.1), (2, .int a.2)] [] w := by
  intro H locs cells slots ls hP hS hB hl
  have hx := hC.1
  have hb := hC.2.1
  have hown := hC.2.2.2.2.2.1
  have hts := hC.2.2.2.2.2.2.1
  unfold fX0_least_B4 at hE
  refine lv_iload_n hx hb dX0_least_4 rfl (lv_at hl 2 rfl) ?_
  refine lv_bipush (v := 30) hx hb dX0_least_5 (by decide) ?_
  refine lv_icmp_ge (tgt := 27) hx hb dX0_least_7 (by decide) (fun c_1 => ?_) (fun c_1 => ?_)
  · have hE := ip c_1 hE
    exact hx1 _ (Option.some.inj hE).symm H locs cells slots ls hP hS hB (lv_sub hl [1] rfl)
  · have hE := iq c_1 hE
    refine lv_aload_n hx hb dX0_least_10 rfl (lv_at hl 0 rfl) ?_
    refine lv_iload_n hx hb dX0_least_11 rfl (lv_at hl 2 rfl) ?_
    refine lv_iload_n hx hb dX0_least_12 rfl (lv_at hl 1 rfl) ?_
    obtain ⟨r_2, h_2, hE⟩ := ob hE
    refine x_callV (rc1 := _) (rs1 := _) [.int a.2, .int a.1] (E.2.2.1 0) hC hP hS hB hl.1 (wX0_moreFrom k w a.2 a.1 r_2 h_2) (xC.c0 hC) (xw_get E _ (k := 0) (by decide)) (cwV 2 hts lkX0_355 rfl rfl rfl cdX0_moreFrom ⟨Nat.le_of_ble_eq_true rfl, Nat.le_of_ble_eq_true rfl⟩) rfl rfl (lv_room (Nat.le_of_ble_eq_true rfl)) ⟨Nat.le_of_eq (Nat.zero_add _), Nat.le_of_eq (Nat.zero_add _)⟩ dX0_least_13 (fun H locs cells slots hP hS hB => ?_)
    show W p l e _ s m args below meth c H locs cells slots _ (F0 m _ ls (.int r_2 :: []))
    refine lv_if_ge (tgt := 21) hx hb dX0_least_16 (by decide) (fun c_3 => ?_) (fun c_3 => ?_)
    · have hE := ip c_3 hE
      refine lv_iinc (v := (a.2 + (1 : Int32))) (lv' := [(2, .int (a.2 + (1 : Int32))), (0, .ref (E.2.2.1 0)), (1, .int a.1)]) hx hb dX0_least_21 hl (k := 2) rfl rfl (Nat.le_of_ble_eq_true rfl) rfl (fun ls hl => ?_)
      refine lv_goto (tgt := 4) hx hb dX0_least_24 (by decide) ?_
      exact hc _ (Option.some.inj hE).symm H locs cells slots ls hP hS hB (lv_sub hl [1, 2, 0] rfl)
    · have hE := iq c_3 hE
      refine lv_iload_n hx hb dX0_least_19 rfl (lv_at hl 2 rfl) ?_
      refine lv_istore_n (lv' := [(1, .int a.2), (0, .ref (E.2.2.1 0)), (2, .int a.2)]) hx hb dX0_least_20 rfl hl (Nat.le_of_ble_eq_true rfl) rfl (fun ls hl => ?_)
      refine lv_iinc (v := (a.2 + (1 : Int32))) (lv' := [(2, .int (a.2 + (1 : Int32))), (1, .int a.2), (0, .ref (E.2.2.1 0))]) hx hb dX0_least_21 hl (k := 2) rfl rfl (Nat.le_of_ble_eq_true rfl) rfl (fun ls hl => ?_)
      refine lv_goto (tgt := 4) hx hb dX0_least_24 (by decide) ?_
      exact hc _ (Option.some.inj hE).symm H locs cells slots ls hP hS hB (lv_sub hl [2, 1, 0] rfl)
noncomputable def fX0_least (k : Nat) (z : XS)  : Option Int32 := (lpo (fX0_least_B4 k  z) k ((0 : Int32), (1 : Int32))).bind fun x_4 => some x_4
set_option maxHeartbeats 1000000 in
theorem wX0_least {l : Launch} {E : XE} (k : Nat) (z : XS)  (y : Int32) (hE : fX0_least k z  = some y) : xM l yX0_least (ws_ yX0_least cX0_least 3 (some .int)) rmX0_least E z [.ref (E.2.2.1 0)] (some (.int y)) z := by
  refine x_met (own := RX0) (by decide) rfl (Nat.le_of_ble_eq_true rfl) (fun p e s m args below meth c hC => ?_)
  intro H locs cells slots ls hP hS hB hl
  have hx := hC.1
  have hb := hC.2.1
  have hown := hC.2.2.2.2.2.1
  have hts := hC.2.2.2.2.2.2.1
  have hl : lv_has ls 3 [(0, .ref (E.2.2.1 0))] := hl
  unfold fX0_least at hE
  refine lv_iconst (v := 0) hx hb dX0_least_0 (by decide) ?_
  refine lv_istore_n (lv' := [(1, .int (0 : Int32)), (0, .ref (E.2.2.1 0))]) hx hb dX0_least_1 rfl hl (Nat.le_of_ble_eq_true rfl) rfl (fun ls hl => ?_)
  refine lv_iconst (v := 1) hx hb dX0_least_2 (by decide) ?_
  refine lv_istore_n (lv' := [(2, .int (1 : Int32)), (1, .int (0 : Int32)), (0, .ref (E.2.2.1 0))]) hx hb dX0_least_3 rfl hl (Nat.le_of_ble_eq_true rfl) rfl (fun ls hl => ?_)
  obtain ⟨x_4, h_4, hE⟩ := ob hE
  refine lpo_walk (fun p_4 : Int32 × Int32 => xW p l e rmX0_least s m args below meth c E 3 (xQ E rmX0_least below args s (some (.int y)) z) 0 0 4 [(0, .ref (E.2.2.1 0)), (1, .int p_4.1), (2, .int p_4.2)] [] z) (fun q_4 : Int32 => xW p l e rmX0_least s m args below meth c E 3 (xQ E rmX0_least below args s (some (.int y)) z) 0 0 27 [(1, .int q_4)] [] z) (fun a_4 y_4 hB_4 hc_4 hx_4 => wX0_least_B4 k  z hC a_4 y_4 hB_4 hc_4 hx_4) _ _ x_4 h_4 ?_ H locs cells slots ls hP hS hB (lv_sub hl [2, 1, 0] rfl)
  intro H locs cells slots ls hP hS hB hl
  refine lv_iload_n hx hb dX0_least_27 rfl (lv_at hl 0 rfl) ?_
  obtain rfl := Option.some.inj hE
  exact x_iret hC hP hS hB dX0_least_28
noncomputable def fX0_isMirror_B2 (k : Nat) (v1 : Int32) (w : XS) (a : Int32) : Option (Int32 ⊕ (Unit ⊕ Unit)) := if (30 : Int32) ≤ a then (some (.inr (.inl ()))) else ((fX0_kindAt w a).bind fun r_2 => (fX0_kindAt w (((v1 - a) + (30 : Int32)) - ((v1 - a) + (30 : Int32)) / (30 : Int32) * (30 : Int32))).bind fun r_3 => if r_2 = r_3 then (some (.inl (a + (1 : Int32)))) else (some (.inr (.inr ()))))
set_option maxHeartbeats 1000000 in
theorem wX0_isMirror_B2 {p : Program} {l : Launch} {e : Env} {s : State} {m : MethodId} {args : Array Value} {below : List Frame} {meth : Method} {c : Code} {E : XE} {Q : State → Prop} (k : Nat) (v1 : Int32) (w : XS) (hC : xC E RX0 cX0_isMirror 3 (some .boolean) p s m args meth c) (a : Int32) (y : Int32 ⊕ (Unit ⊕ Unit)) (hE : fX0_isMirror_B2 k v1 w a = some y) (hc : ∀ a : Int32, y = .inl a → xW p l e rmX0_isMirror s m args below meth c E 3 Q 0 0 2 [(0, .ref (E.2.2.1 0)), (1, .int v1), (2, .int a)] [] w) (hx1 : ∀ b : Unit, y = .inr (.inl b) → xW p l e rmX0_isMirror s m args below meth c E 3 Q 0 0 37 [] [] w) (hx2 : ∀ b : Unit, y = .inr (.inr b) → xW p l e rmX0_isMirror s m args below meth c E 3 Q 0 0 29 [] [] w) : xW p l e rmX0_isMirror s m args below meth c E 3 Q 0 0 2 [(0, .ref (E.2.2.1 0)), (1, .int v1), (2, .int a)] [] w := by
  intro H locs cells slots ls hP hS hB hl
  have hx := hC.1
  have hb := hC.2.1
  have hown := hC.2.2.2.2.2.1
  have hts := hC.2.2.2.2.2.2.1
  unfold fX0_isMirror_B2 at hE
  refine lv_iload_n hx hb dX0_isMirror_2 rfl (lv_at hl 2 rfl) ?_
  refine lv_bipush (v := 30) hx hb dX0_isMirror_3 (by decide) ?_
  refine lv_icmp_ge (tgt := 37) hx hb dX0_isMirror_5 (by decide) (fun c_1 => ?_) (fun c_1 => ?_)
  · have hE := ip c_1 hE
    exact hx1 _ (Option.some.inj hE).symm H locs cells slots ls hP hS hB (lv_sub hl [] rfl)
  · have hE := iq c_1 hE
    refine lv_aload_n hx hb dX0_isMirror_8 rfl (lv_at hl 0 rfl) ?_
    refine lv_iload_n hx hb dX0_isMirror_9 rfl (lv_at hl 2 rfl) ?_
    obtain ⟨r_2, h_2, hE⟩ := ob hE
    refine x_callV (rc1 := _) (rs1 := _) [.int a] (E.2.2.1 0) hC hP hS hB hl.1 (wX0_kindAt w a r_2 h_2) (xC.c0 hC) (xw_get E _ (k := 0) (by decide)) (cwV 1 hts lkX0_172 rfl rfl rfl cdX0_kindAt ⟨Nat.le_of_ble_eq_true rfl, Nat.le_of_ble_eq_true rfl⟩) rfl rfl (lv_room (Nat.le_of_ble_eq_true rfl)) ⟨Nat.le_of_eq (Nat.zero_add _), Nat.le_of_eq (Nat.zero_add _)⟩ dX0_isMirror_10 (fun H locs cells slots hP hS hB => ?_)
    show W p l e _ s m args below meth c H locs cells slots _ (F0 m _ ls (.int r_2 :: []))
    refine lv_aload_n hx hb dX0_isMirror_13 rfl (lv_at hl 0 rfl) ?_
    refine lv_iload_n hx hb dX0_isMirror_14 rfl (lv_at hl 1 rfl) ?_
    refine lv_iload_n hx hb dX0_isMirror_15 rfl (lv_at hl 2 rfl) ?_
    refine lv_isub hx hb dX0_isMirror_16 ?_
    refine lv_bipush (v := 30) hx hb dX0_isMirror_17 (by decide) ?_
    refine lv_iadd hx hb dX0_isMirror_19 ?_
    refine lv_bipush (v := 30) hx hb dX0_isMirror_20 (by decide) ?_
    refine lv_irem hx hb dX0_isMirror_22 (by decide) ?_
    obtain ⟨r_3, h_3, hE⟩ := ob hE
    refine x_callV (rc1 := _) (rs1 := _) [.int (((v1 - a) + (30 : Int32)) - ((v1 - a) + (30 : Int32)) / (30 : Int32) * (30 : Int32))] (E.2.2.1 0) hC hP hS hB hl.1 (wX0_kindAt w (((v1 - a) + (30 : Int32)) - ((v1 - a) + (30 : Int32)) / (30 : Int32) * (30 : Int32)) r_3 h_3) (xC.c0 hC) (xw_get E _ (k := 0) (by decide)) (cwV 1 hts lkX0_172 rfl rfl rfl cdX0_kindAt ⟨Nat.le_of_ble_eq_true rfl, Nat.le_of_ble_eq_true rfl⟩) rfl rfl (lv_room (Nat.le_of_ble_eq_true rfl)) ⟨Nat.le_of_eq (Nat.zero_add _), Nat.le_of_eq (Nat.zero_add _)⟩ dX0_isMirror_23 (fun H locs cells slots hP hS hB => ?_)
    show W p l e _ s m args below meth c H locs cells slots _ (F0 m _ ls (.int r_3 :: .int r_2 :: []))
    refine lv_icmp_eq (tgt := 31) hx hb dX0_isMirror_26 (by decide) (fun c_4 => ?_) (fun c_4 => ?_)
    · have hE := ip c_4 hE
      refine lv_iinc (v := (a + (1 : Int32))) (lv' := [(2, .int (a + (1 : Int32))), (0, .ref (E.2.2.1 0)), (1, .int v1)]) hx hb dX0_isMirror_31 hl (k := 2) rfl rfl (Nat.le_of_ble_eq_true rfl) rfl (fun ls hl => ?_)
      refine lv_goto (tgt := 2) hx hb dX0_isMirror_34 (by decide) ?_
      exact hc _ (Option.some.inj hE).symm H locs cells slots ls hP hS hB (lv_sub hl [1, 2, 0] rfl)
    · have hE := iq c_4 hE
      exact hx2 _ (Option.some.inj hE).symm H locs cells slots ls hP hS hB (lv_sub hl [] rfl)
noncomputable def fX0_isMirror (k : Nat) (z : XS) (x1 : Int32) : Option Int32 := (lpo (fX0_isMirror_B2 k x1 z) k (0 : Int32)).bind fun x_5 => (Sum.elim (fun t_5 : Unit => some (1 : Int32)) (fun t_5 : Unit => some (0 : Int32))) x_5
set_option maxHeartbeats 1000000 in
theorem wX0_isMirror {l : Launch} {E : XE} (k : Nat) (z : XS) (x1 : Int32) (y : Int32) (hE : fX0_isMirror k z x1 = some y) : xM l yX0_isMirror (ws_ yX0_isMirror cX0_isMirror 3 (some .boolean)) rmX0_isMirror E z [.ref (E.2.2.1 0), .int x1] (some (.int y)) z := by
  refine x_met (own := RX0) (by decide) rfl (Nat.le_of_ble_eq_true rfl) (fun p e s m args below meth c hC => ?_)
  intro H locs cells slots ls hP hS hB hl
  have hx := hC.1
  have hb := hC.2.1
  have hown := hC.2.2.2.2.2.1
  have hts := hC.2.2.2.2.2.2.1
  have hl : lv_has ls 3 [(0, .ref (E.2.2.1 0)), (1, .int x1)] := hl
  unfold fX0_isMirror at hE
  refine lv_iconst (v := 0) hx hb dX0_isMirror_0 (by decide) ?_
  refine lv_istore_n (lv' := [(2, .int (0 : Int32)), (0, .ref (E.2.2.1 0)), (1, .int x1)]) hx hb dX0_isMirror_1 rfl hl (Nat.le_of_ble_eq_true rfl) rfl (fun ls hl => ?_)
  obtain ⟨x_5, h_5, hE⟩ := ob hE
  refine lpo_walk (fun p_5 : Int32 => xW p l e rmX0_isMirror s m args below meth c E 3 (xQ E rmX0_isMirror below args s (some (.int y)) z) 0 0 2 [(0, .ref (E.2.2.1 0)), (1, .int x1), (2, .int p_5)] [] z) (fun q_5 : (Unit ⊕ Unit) => (∀ t_5 : Unit, q_5 = (.inl t_5) → xW p l e rmX0_isMirror s m args below meth c E 3 (xQ E rmX0_isMirror below args s (some (.int y)) z) 0 0 37 [] [] z) ∧ (∀ t_5 : Unit, q_5 = (.inr t_5) → xW p l e rmX0_isMirror s m args below meth c E 3 (xQ E rmX0_isMirror below args s (some (.int y)) z) 0 0 29 [] [] z)) (fun a_5 y_5 hB_5 hc_5 hx_5 => wX0_isMirror_B2 k x1 z hC a_5 y_5 hB_5 hc_5 (fun t_5 e_5 => (hx_5 _ e_5).1 t_5 rfl) (fun t_5 e_5 => (hx_5 _ e_5).2 t_5 rfl)) _ _ x_5 h_5 ?_ H locs cells slots ls hP hS hB (lv_sub hl [1, 2, 0] rfl)
  refine ⟨?_, ?_⟩
  · intro t_5 e_5
    subst e_5
    have hE := oel hE
    intro H locs cells slots ls hP hS hB hl
    refine lv_iconst (v := 1) hx hb dX0_isMirror_37 (by decide) ?_
    obtain rfl := Option.some.inj hE
    exact x_zret (v := (1 : Int32)) hC hP hS hB (by decide) dX0_isMirror_38
  · intro t_5 e_5
    subst e_5
    have hE := oer hE
    intro H locs cells slots ls hP hS hB hl
    refine lv_iconst (v := 0) hx hb dX0_isMirror_29 (by decide) ?_
    obtain rfl := Option.some.inj hE
    exact x_zret (v := (0 : Int32)) hC hP hS hB (by decide) dX0_isMirror_30
noncomputable def fX0_mirrors_B4 (k : Nat)  (w : XS) (a : Int32 × Int32) : Option ((Int32 × Int32) ⊕ Int32) := if (30 : Int32) ≤ a.2 then (some (.inr a.1)) else ((fX0_isMirror k w a.2).bind fun r_2 => if r_2 = 0 then (some (.inl ((a.1 + (0 : Int32)), (a.2 + (1 : Int32))))) else (some (.inl ((a.1 + (1 : Int32)), (a.2 + (1 : Int32))))))
set_option maxHeartbeats 1000000 in
theorem wX0_mirrors_B4 {p : Program} {l : Launch} {e : Env} {s : State} {m : MethodId} {args : Array Value} {below : List Frame} {meth : Method} {c : Code} {E : XE} {Q : State → Prop} (k : Nat)  (w : XS) (hC : xC E RX0 cX0_mirrors 3 (some .int) p s m args meth c) (a : Int32 × Int32) (y : (Int32 × Int32) ⊕ Int32) (hE : fX0_mirrors_B4 k  w a = some y) (hc : ∀ a : Int32 × Int32, y = .inl a → xW p l e rmX0_mirrors s m args below meth c E 3 Q 0 0 4 [(0, .ref (E.2.2.1 0)), (1, .int a.1), (2, .int a.2)] [] w) (hx1 : ∀ b : Int32, y = .inr b → xW p l e rmX0_mirrors s m args below meth c E 3 Q 0 0 32 [(1, .int b)] [] w) : xW p l e rmX0_mirrors s m args below meth c E 3 Q 0 0 4 [(0, .ref (E.2.2.1 0)), (1, .int a.1), (2, .int a.2)] [] w := by
  intro H locs cells slots ls hP hS hB hl
  have hx := hC.1
  have hb := hC.2.1
  have hown := hC.2.2.2.2.2.1
  have hts := hC.2.2.2.2.2.2.1
  unfold fX0_mirrors_B4 at hE
  refine lv_iload_n hx hb dX0_mirrors_4 rfl (lv_at hl 2 rfl) ?_
  refine lv_bipush (v := 30) hx hb dX0_mirrors_5 (by decide) ?_
  refine lv_icmp_ge (tgt := 32) hx hb dX0_mirrors_7 (by decide) (fun c_1 => ?_) (fun c_1 => ?_)
  · have hE := ip c_1 hE
    exact hx1 _ (Option.some.inj hE).symm H locs cells slots ls hP hS hB (lv_sub hl [1] rfl)
  · have hE := iq c_1 hE
    refine lv_iload_n hx hb dX0_mirrors_10 rfl (lv_at hl 1 rfl) ?_
    refine lv_aload_n hx hb dX0_mirrors_11 rfl (lv_at hl 0 rfl) ?_
    refine lv_iload_n hx hb dX0_mirrors_12 rfl (lv_at hl 2 rfl) ?_
    obtain ⟨r_2, h_2, hE⟩ := ob hE
    refine x_callV (rc1 := _) (rs1 := _) [.int a.2] (E.2.2.1 0) hC hP hS hB hl.1 (wX0_isMirror k w a.2 r_2 h_2) (xC.c0 hC) (xw_get E _ (k := 0) (by decide)) (cwV 1 hts lkX0_358 rfl rfl rfl cdX0_isMirror ⟨Nat.le_of_ble_eq_true rfl, Nat.le_of_ble_eq_true rfl⟩) rfl rfl (lv_room (Nat.le_of_ble_eq_true rfl)) ⟨Nat.le_of_eq (Nat.zero_add _), Nat.le_of_eq (Nat.zero_add _)⟩ dX0_mirrors_13 (fun H locs cells slots hP hS hB => ?_)
    show W p l e _ s m args below meth c H locs cells slots _ (F0 m _ ls (.int r_2 :: .int a.1 :: []))
    refine lv_if_eq (tgt := 23) hx hb dX0_mirrors_16 (by decide) (fun c_3 => ?_) (fun c_3 => ?_)
    · have hE := ip c_3 hE
      refine lv_iconst (v := 0) hx hb dX0_mirrors_23 (by decide) ?_
      refine lv_iadd hx hb dX0_mirrors_24 ?_
      refine lv_istore_n (lv' := [(1, .int (a.1 + (0 : Int32))), (0, .ref (E.2.2.1 0)), (2, .int a.2)]) hx hb dX0_mirrors_25 rfl hl (Nat.le_of_ble_eq_true rfl) rfl (fun ls hl => ?_)
      refine lv_iinc (v := (a.2 + (1 : Int32))) (lv' := [(2, .int (a.2 + (1 : Int32))), (1, .int (a.1 + (0 : Int32))), (0, .ref (E.2.2.1 0))]) hx hb dX0_mirrors_26 hl (k := 2) rfl rfl (Nat.le_of_ble_eq_true rfl) rfl (fun ls hl => ?_)
      refine lv_goto (tgt := 4) hx hb dX0_mirrors_29 (by decide) ?_
      exact hc _ (Option.some.inj hE).symm H locs cells slots ls hP hS hB (lv_sub hl [2, 1, 0] rfl)
    · have hE := iq c_3 hE
      refine lv_iconst (v := 1) hx hb dX0_mirrors_19 (by decide) ?_
      refine lv_goto (tgt := 24) hx hb dX0_mirrors_20 (by decide) ?_
      refine lv_iadd hx hb dX0_mirrors_24 ?_
      refine lv_istore_n (lv' := [(1, .int (a.1 + (1 : Int32))), (0, .ref (E.2.2.1 0)), (2, .int a.2)]) hx hb dX0_mirrors_25 rfl hl (Nat.le_of_ble_eq_true rfl) rfl (fun ls hl => ?_)
      refine lv_iinc (v := (a.2 + (1 : Int32))) (lv' := [(2, .int (a.2 + (1 : Int32))), (1, .int (a.1 + (1 : Int32))), (0, .ref (E.2.2.1 0))]) hx hb dX0_mirrors_26 hl (k := 2) rfl rfl (Nat.le_of_ble_eq_true rfl) rfl (fun ls hl => ?_)
      refine lv_goto (tgt := 4) hx hb dX0_mirrors_29 (by decide) ?_
      exact hc _ (Option.some.inj hE).symm H locs cells slots ls hP hS hB (lv_sub hl [2, 1, 0] rfl)
noncomputable def fX0_mirrors (k : Nat) (z : XS)  : Option Int32 := (lpo (fX0_mirrors_B4 k  z) k ((0 : Int32), (0 : Int32))).bind fun x_4 => some x_4
set_option maxHeartbeats 1000000 in
theorem wX0_mirrors {l : Launch} {E : XE} (k : Nat) (z : XS)  (y : Int32) (hE : fX0_mirrors k z  = some y) : xM l yX0_mirrors (ws_ yX0_mirrors cX0_mirrors 3 (some .int)) rmX0_mirrors E z [.ref (E.2.2.1 0)] (some (.int y)) z := by
  refine x_met (own := RX0) (by decide) rfl (Nat.le_of_ble_eq_true rfl) (fun p e s m args below meth c hC => ?_)
  intro H locs cells slots ls hP hS hB hl
  have hx := hC.1
  have hb := hC.2.1
  have hown := hC.2.2.2.2.2.1
  have hts := hC.2.2.2.2.2.2.1
  have hl : lv_has ls 3 [(0, .ref (E.2.2.1 0))] := hl
  unfold fX0_mirrors at hE
  refine lv_iconst (v := 0) hx hb dX0_mirrors_0 (by decide) ?_
  refine lv_istore_n (lv' := [(1, .int (0 : Int32)), (0, .ref (E.2.2.1 0))]) hx hb dX0_mirrors_1 rfl hl (Nat.le_of_ble_eq_true rfl) rfl (fun ls hl => ?_)
  refine lv_iconst (v := 0) hx hb dX0_mirrors_2 (by decide) ?_
  refine lv_istore_n (lv' := [(2, .int (0 : Int32)), (1, .int (0 : Int32)), (0, .ref (E.2.2.1 0))]) hx hb dX0_mirrors_3 rfl hl (Nat.le_of_ble_eq_true rfl) rfl (fun ls hl => ?_)
  obtain ⟨x_4, h_4, hE⟩ := ob hE
  refine lpo_walk (fun p_4 : Int32 × Int32 => xW p l e rmX0_mirrors s m args below meth c E 3 (xQ E rmX0_mirrors below args s (some (.int y)) z) 0 0 4 [(0, .ref (E.2.2.1 0)), (1, .int p_4.1), (2, .int p_4.2)] [] z) (fun q_4 : Int32 => xW p l e rmX0_mirrors s m args below meth c E 3 (xQ E rmX0_mirrors below args s (some (.int y)) z) 0 0 32 [(1, .int q_4)] [] z) (fun a_4 y_4 hB_4 hc_4 hx_4 => wX0_mirrors_B4 k  z hC a_4 y_4 hB_4 hc_4 hx_4) _ _ x_4 h_4 ?_ H locs cells slots ls hP hS hB (lv_sub hl [2, 1, 0] rfl)
  intro H locs cells slots ls hP hS hB hl
  refine lv_iload_n hx hb dX0_mirrors_32 rfl (lv_at hl 0 rfl) ?_
  obtain rfl := Option.some.inj hE
  exact x_iret hC hP hS hB dX0_mirrors_33
noncomputable def fX0_runFrom_B2 (k : Nat) (v1 : Int32) (v2 : Int32) (w : XS) (a : Int32) : Option (Int32 ⊕ Int32) := if (30 : Int32) ≤ a then (some (.inr a)) else ((fX0_kindAt w ((v1 + a) - (v1 + a) / (30 : Int32) * (30 : Int32))).bind fun r_2 => if r_2 = v2 then (some (.inl (a + (1 : Int32)))) else (some (.inr a)))
set_option maxHeartbeats 1000000 in
theorem wX0_runFrom_B2 {p : Program} {l : Launch} {e : Env} {s : State} {m : MethodId} {args : Array Value} {below : List Frame} {meth : Method} {c : Code} {E : XE} {Q : State → Prop} (k : Nat) (v1 : Int32) (v2 : Int32) (w : XS) (hC : xC E RX0 cX0_runFrom 4 (some .int) p s m args meth c) (a : Int32) (y : Int32 ⊕ Int32) (hE : fX0_runFrom_B2 k v1 v2 w a = some y) (hc : ∀ a : Int32, y = .inl a → xW p l e rmX0_runFrom s m args below meth c E 4 Q 0 0 2 [(0, .ref (E.2.2.1 0)), (1, .int v1), (2, .int v2), (3, .int a)] [] w) (hx1 : ∀ b : Int32, y = .inr b → xW p l e rmX0_runFrom s m args below meth c E 4 Q 0 0 28 [(3, .int b)] [] w) : xW p l e rmX0_runFrom s m args below meth c E 4 Q 0 0 2 [(0, .ref (E.2.2.1 0)), (1, .int v1), (2, .int v2), (3, .int a)] [] w := by
  intro H locs cells slots ls hP hS hB hl
  have hx := hC.1
  have hb := hC.2.1
  have hown := hC.2.2.2.2.2.1
  have hts := hC.2.2.2.2.2.2.1
  unfold fX0_runFrom_B2 at hE
  refine lv_iload_n hx hb dX0_runFrom_2 rfl (lv_at hl 3 rfl) ?_
  refine lv_bipush (v := 30) hx hb dX0_runFrom_3 (by decide) ?_
  refine lv_icmp_ge (tgt := 28) hx hb dX0_runFrom_5 (by decide) (fun c_1 => ?_) (fun c_1 => ?_)
  · have hE := ip c_1 hE
    exact hx1 _ (Option.some.inj hE).symm H locs cells slots ls hP hS hB (lv_sub hl [3] rfl)
  · have hE := iq c_1 hE
    refine lv_aload_n hx hb dX0_runFrom_8 rfl (lv_at hl 0 rfl) ?_
    refine lv_iload_n hx hb dX0_runFrom_9 rfl (lv_at hl 1 rfl) ?_
    refine lv_iload_n hx hb dX0_runFrom_10 rfl (lv_at hl 3 rfl) ?_
    refine lv_iadd hx hb dX0_runFrom_11 ?_
    refine lv_bipush (v := 30) hx hb dX0_runFrom_12 (by decide) ?_
    refine lv_irem hx hb dX0_runFrom_14 (by decide) ?_
    obtain ⟨r_2, h_2, hE⟩ := ob hE
    refine x_callV (rc1 := _) (rs1 := _) [.int ((v1 + a) - (v1 + a) / (30 : Int32) * (30 : Int32))] (E.2.2.1 0) hC hP hS hB hl.1 (wX0_kindAt w ((v1 + a) - (v1 + a) / (30 : Int32) * (30 : Int32)) r_2 h_2) (xC.c0 hC) (xw_get E _ (k := 0) (by decide)) (cwV 1 hts lkX0_172 rfl rfl rfl cdX0_kindAt ⟨Nat.le_of_ble_eq_true rfl, Nat.le_of_ble_eq_true rfl⟩) rfl rfl (lv_room (Nat.le_of_ble_eq_true rfl)) ⟨Nat.le_of_eq (Nat.zero_add _), Nat.le_of_eq (Nat.zero_add _)⟩ dX0_runFrom_15 (fun H locs cells slots hP hS hB => ?_)
    show W p l e _ s m args below meth c H locs cells slots _ (F0 m _ ls (.int r_2 :: []))
    refine lv_iload_n hx hb dX0_runFrom_18 rfl (lv_at hl 2 rfl) ?_
    refine lv_icmp_ne (tgt := 28) hx hb dX0_runFrom_19 (by decide) (fun c_3 => ?_) (fun c_3 => ?_)
    · have hE := iq c_3 hE
      exact hx1 _ (Option.some.inj hE).symm H locs cells slots ls hP hS hB (lv_sub hl [3] rfl)
    · have hE := ip c_3 hE
      refine lv_iinc (v := (a + (1 : Int32))) (lv' := [(3, .int (a + (1 : Int32))), (0, .ref (E.2.2.1 0)), (1, .int v1), (2, .int v2)]) hx hb dX0_runFrom_22 hl (k := 3) rfl rfl (Nat.le_of_ble_eq_true rfl) rfl (fun ls hl => ?_)
      refine lv_goto (tgt := 2) hx hb dX0_runFrom_25 (by decide) ?_
      exact hc _ (Option.some.inj hE).symm H locs cells slots ls hP hS hB (lv_sub hl [1, 2, 3, 0] rfl)
noncomputable def fX0_runFrom (k : Nat) (z : XS) (x1 : Int32) (x2 : Int32) : Option Int32 := (lpo (fX0_runFrom_B2 k x1 x2 z) k (0 : Int32)).bind fun x_4 => some x_4
set_option maxHeartbeats 1000000 in
theorem wX0_runFrom {l : Launch} {E : XE} (k : Nat) (z : XS) (x1 : Int32) (x2 : Int32) (y : Int32) (hE : fX0_runFrom k z x1 x2 = some y) : xM l yX0_runFrom (ws_ yX0_runFrom cX0_runFrom 4 (some .int)) rmX0_runFrom E z [.ref (E.2.2.1 0), .int x1, .int x2] (some (.int y)) z := by
  refine x_met (own := RX0) (by decide) rfl (Nat.le_of_ble_eq_true rfl) (fun p e s m args below meth c hC => ?_)
  intro H locs cells slots ls hP hS hB hl
  have hx := hC.1
  have hb := hC.2.1
  have hown := hC.2.2.2.2.2.1
  have hts := hC.2.2.2.2.2.2.1
  have hl : lv_has ls 4 [(0, .ref (E.2.2.1 0)), (1, .int x1), (2, .int x2)] := hl
  unfold fX0_runFrom at hE
  refine lv_iconst (v := 0) hx hb dX0_runFrom_0 (by decide) ?_
  refine lv_istore_n (lv' := [(3, .int (0 : Int32)), (0, .ref (E.2.2.1 0)), (1, .int x1), (2, .int x2)]) hx hb dX0_runFrom_1 rfl hl (Nat.le_of_ble_eq_true rfl) rfl (fun ls hl => ?_)
  obtain ⟨x_4, h_4, hE⟩ := ob hE
  refine lpo_walk (fun p_4 : Int32 => xW p l e rmX0_runFrom s m args below meth c E 4 (xQ E rmX0_runFrom below args s (some (.int y)) z) 0 0 2 [(0, .ref (E.2.2.1 0)), (1, .int x1), (2, .int x2), (3, .int p_4)] [] z) (fun q_4 : Int32 => xW p l e rmX0_runFrom s m args below meth c E 4 (xQ E rmX0_runFrom below args s (some (.int y)) z) 0 0 28 [(3, .int q_4)] [] z) (fun a_4 y_4 hB_4 hc_4 hx_4 => wX0_runFrom_B2 k x1 x2 z hC a_4 y_4 hB_4 hc_4 hx_4) _ _ x_4 h_4 ?_ H locs cells slots ls hP hS hB (lv_sub hl [1, 2, 3, 0] rfl)
  intro H locs cells slots ls hP hS hB hl
  refine lv_iload_n hx hb dX0_runFrom_28 rfl (lv_at hl 0 rfl) ?_
  obtain rfl := Option.some.inj hE
  exact x_iret hC hP hS hB dX0_runFrom_29
noncomputable def fX0_longest_B17 (k : Nat) (v1 : Int32) (v2 : Int32) (w : XS) (a : Int32 × Int32) : Option ((Int32 × Int32) ⊕ Int32) := if (30 : Int32) ≤ a.2 then (some (.inr a.1)) else ((fX0_runFrom k w a.2 v1).bind fun r_4 => (fX0_runFrom k w a.1 v1).bind fun r_5 => if r_4 ≤ r_5 then (some (.inl (a.1, (a.2 + (1 : Int32))))) else (some (.inl (a.2, (a.2 + (1 : Int32))))))
set_option maxHeartbeats 1000000 in
theorem wX0_longest_B17 {p : Program} {l : Launch} {e : Env} {s : State} {m : MethodId} {args : Array Value} {below : List Frame} {meth : Method} {c : Code} {E : XE} {Q : State → Prop} (k : Nat) (v1 : Int32) (v2 : Int32) (w : XS) (hC : xC E RX0 cX0_longest 5 (some .int) p s m args meth c) (a : Int32 × Int32) (y : (Int32 × Int32) ⊕ Int32) (hE : fX0_longest_B17 k v1 v2 w a = some y) (hc : ∀ a : Int32 × Int32, y = .inl a → xW p l e rmX0_longest s m args below meth c E 5 Q 0 0 17 [(0, .ref (E.2.2.1 0)), (1, .int v1), (2, .int v2), (3, .int a.1), (4, .int a.2)] [] w) (hx1 : ∀ b : Int32, y = .inr b → xW p l e rmX0_longest s m args below meth c E 5 Q 0 0 49 [(0, .ref (E.2.2.1 0)), (1, .int v1), (2, .int v2), (3, .int b)] [] w) : xW p l e rmX0_longest s m args below meth c E 5 Q 0 0 17 [(0, .ref (E.2.2.1 0)), (1, .int v1), (2, .int v2), (3, .int a.1), (4, .int a.2)] [] w := by
  intro H locs cells slots ls hP hS hB hl
  have hx := hC.1
  have hb := hC.2.1
  have hown := hC.2.2.2.2.2.1
  have hts := hC.2.2.2.2.2.2.1
  unfold fX0_longest_B17 at hE
  refine lv_iload hx hb dX0_longest_17 (lv_at hl 4 rfl) ?_
  refine lv_bipush (v := 30) hx hb dX0_longest_19 (by decide) ?_
  refine lv_icmp_ge (tgt := 49) hx hb dX0_longest_21 (by decide) (fun c_3 => ?_) (fun c_3 => ?_)
  · have hE := ip c_3 hE
    exact hx1 _ (Option.some.inj hE).symm H locs cells slots ls hP hS hB (lv_sub hl [0, 1, 2, 3] rfl)
  · have hE := iq c_3 hE
    refine lv_aload_n hx hb dX0_longest_24 rfl (lv_at hl 0 rfl) ?_
    refine lv_iload hx hb dX0_longest_25 (lv_at hl 4 rfl) ?_
    refine lv_iload_n hx hb dX0_longest_27 rfl (lv_at hl 1 rfl) ?_
    obtain ⟨r_4, h_4, hE⟩ := ob hE
    refine x_callV (rc1 := _) (rs1 := _) [.int a.2, .int v1] (E.2.2.1 0) hC hP hS hB hl.1 (wX0_runFrom k w a.2 v1 r_4 h_4) (xC.c0 hC) (xw_get E _ (k := 0) (by decide)) (cwV 2 hts lkX0_361 rfl rfl rfl cdX0_runFrom ⟨Nat.le_of_ble_eq_true rfl, Nat.le_of_ble_eq_true rfl⟩) rfl rfl (lv_room (Nat.le_of_ble_eq_true rfl)) ⟨Nat.le_of_eq (Nat.zero_add _), Nat.le_of_eq (Nat.zero_add _)⟩ dX0_longest_28 (fun H locs cells slots hP hS hB => ?_)
    show W p l e _ s m args below meth c H locs cells slots _ (F0 m _ ls (.int r_4 :: []))
    refine lv_aload_n hx hb dX0_longest_31 rfl (lv_at hl 0 rfl) ?_
    refine lv_iload_n hx hb dX0_longest_32 rfl (lv_at hl 3 rfl) ?_
    refine lv_iload_n hx hb dX0_longest_33 rfl (lv_at hl 1 rfl) ?_
    obtain ⟨r_5, h_5, hE⟩ := ob hE
    refine x_callV (rc1 := _) (rs1 := _) [.int a.1, .int v1] (E.2.2.1 0) hC hP hS hB hl.1 (wX0_runFrom k w a.1 v1 r_5 h_5) (xC.c0 hC) (xw_get E _ (k := 0) (by decide)) (cwV 2 hts lkX0_361 rfl rfl rfl cdX0_runFrom ⟨Nat.le_of_ble_eq_true rfl, Nat.le_of_ble_eq_true rfl⟩) rfl rfl (lv_room (Nat.le_of_ble_eq_true rfl)) ⟨Nat.le_of_eq (Nat.zero_add _), Nat.le_of_eq (Nat.zero_add _)⟩ dX0_longest_34 (fun H locs cells slots hP hS hB => ?_)
    show W p l e _ s m args below meth c H locs cells slots _ (F0 m _ ls (.int r_5 :: .int r_4 :: []))
    refine lv_icmp_le (tgt := 43) hx hb dX0_longest_37 (by decide) (fun c_6 => ?_) (fun c_6 => ?_)
    · have hE := ip c_6 hE
      refine lv_iinc (v := (a.2 + (1 : Int32))) (lv' := [(4, .int (a.2 + (1 : Int32))), (0, .ref (E.2.2.1 0)), (1, .int v1), (2, .int v2), (3, .int a.1)]) hx hb dX0_longest_43 hl (k := 4) rfl rfl (Nat.le_of_ble_eq_true rfl) rfl (fun ls hl => ?_)
      refine lv_goto (tgt := 17) hx hb dX0_longest_46 (by decide) ?_
      exact hc _ (Option.some.inj hE).symm H locs cells slots ls hP hS hB (lv_sub hl [1, 2, 3, 4, 0] rfl)
    · have hE := iq c_6 hE
      refine lv_iload hx hb dX0_longest_40 (lv_at hl 4 rfl) ?_
      refine lv_istore_n (lv' := [(3, .int a.2), (0, .ref (E.2.2.1 0)), (1, .int v1), (2, .int v2), (4, .int a.2)]) hx hb dX0_longest_42 rfl hl (Nat.le_of_ble_eq_true rfl) rfl (fun ls hl => ?_)
      refine lv_iinc (v := (a.2 + (1 : Int32))) (lv' := [(4, .int (a.2 + (1 : Int32))), (3, .int a.2), (0, .ref (E.2.2.1 0)), (1, .int v1), (2, .int v2)]) hx hb dX0_longest_43 hl (k := 4) rfl rfl (Nat.le_of_ble_eq_true rfl) rfl (fun ls hl => ?_)
      refine lv_goto (tgt := 17) hx hb dX0_longest_46 (by decide) ?_
      exact hc _ (Option.some.inj hE).symm H locs cells slots ls hP hS hB (lv_sub hl [2, 3, 4, 1, 0] rfl)
noncomputable def fX0_longest (k : Nat) (z : XS) (x1 : Int32) (x2 : Int32) : Option Int32 := (fX0_in x1 (0 : Int32) (3 : Int32)).bind fun r_1 => if r_1 = 0 then (some (-2 : Int32)) else ((lpo (fX0_longest_B17 k x1 x2 z) k ((0 : Int32), (1 : Int32))).bind fun x_7 => if x2 = 0 then ((fX0_runFrom k z x_7 x1).bind fun r_11 => some r_11) else ((fX0_runFrom k z x_7 x1).bind fun r_9 => if r_9 = 0 then (some (-1 : Int32)) else (some x_7)))
set_option maxHeartbeats 1000000 in
theorem wX0_longest {l : Launch} {E : XE} (k : Nat) (z : XS) (x1 : Int32) (x2 : Int32) (y : Int32) (hE : fX0_longest k z x1 x2 = some y) : xM l yX0_longest (ws_ yX0_longest cX0_longest 5 (some .int)) rmX0_longest E z [.ref (E.2.2.1 0), .int x1, .int x2] (some (.int y)) z := by
  refine x_met (own := RX0) (by decide) rfl (Nat.le_of_ble_eq_true rfl) (fun p e s m args below meth c hC => ?_)
  intro H locs cells slots ls hP hS hB hl
  have hx := hC.1
  have hb := hC.2.1
  have hown := hC.2.2.2.2.2.1
  have hts := hC.2.2.2.2.2.2.1
  have hl : lv_has ls 5 [(0, .ref (E.2.2.1 0)), (1, .int x1), (2, .int x2)] := hl
  unfold fX0_longest at hE
  refine lv_iload_n hx hb dX0_longest_0 rfl (lv_at hl 1 rfl) ?_
  refine lv_iconst (v := 0) hx hb dX0_longest_1 (by decide) ?_
  refine lv_iconst (v := 3) hx hb dX0_longest_2 (by decide) ?_
  obtain ⟨r_1, h_1, hE⟩ := ob hE
  refine s_calli [.int x1, .int (0 : Int32), .int (3 : Int32)] hC.sC hl.1 (wX0_in x1 (0 : Int32) (3 : Int32) r_1 h_1) (va_cwS 3 hts lkX0_58 rfl rfl rfl cdX0_in ⟨Nat.le_of_ble_eq_true rfl, Nat.le_of_ble_eq_true rfl⟩) rfl rfl (lv_room (Nat.le_of_ble_eq_true rfl)) (hB0 hB) dX0_longest_3 ?_
  refine lv_if_ne (tgt := 12) hx hb dX0_longest_6 (by decide) (fun c_2 => ?_) (fun c_2 => ?_)
  · have hE := iq c_2 hE
    refine lv_iconst (v := 0) hx hb dX0_longest_12 (by decide) ?_
    refine lv_istore_n (lv' := [(3, .int (0 : Int32)), (0, .ref (E.2.2.1 0)), (1, .int x1), (2, .int x2)]) hx hb dX0_longest_13 rfl hl (Nat.le_of_ble_eq_true rfl) rfl (fun ls hl => ?_)
    refine lv_iconst (v := 1) hx hb dX0_longest_14 (by decide) ?_
    refine lv_istore (lv' := [(4, .int (1 : Int32)), (3, .int (0 : Int32)), (0, .ref (E.2.2.1 0)), (1, .int x1), (2, .int x2)]) hx hb dX0_longest_15 hl (Nat.le_of_ble_eq_true rfl) rfl (fun ls hl => ?_)
    obtain ⟨x_7, h_7, hE⟩ := ob hE
    refine lpo_walk (fun p_7 : Int32 × Int32 => xW p l e rmX0_longest s m args below meth c E 5 (xQ E rmX0_longest below args s (some (.int y)) z) 0 0 17 [(0, .ref (E.2.2.1 0)), (1, .int x1), (2, .int x2), (3, .int p_7.1), (4, .int p_7.2)] [] z) (fun q_7 : Int32 => xW p l e rmX0_longest s m args below meth c E 5 (xQ E rmX0_longest below args s (some (.int y)) z) 0 0 49 [(0, .ref (E.2.2.1 0)), (1, .int x1), (2, .int x2), (3, .int q_7)] [] z) (fun a_7 y_7 hB_7 hc_7 hx_7 => wX0_longest_B17 k x1 x2 z hC a_7 y_7 hB_7 hc_7 hx_7) _ _ x_7 h_7 ?_ H locs cells slots ls hP hS hB (lv_sub hl [2, 3, 4, 1, 0] rfl)
    intro H locs cells slots ls hP hS hB hl
    refine lv_iload_n hx hb dX0_longest_49 rfl (lv_at hl 2 rfl) ?_
    refine lv_if_ne (tgt := 62) hx hb dX0_longest_50 (by decide) (fun c_8 => ?_) (fun c_8 => ?_)
    · have hE := iq c_8 hE
      refine lv_aload_n hx hb dX0_longest_62 rfl (lv_at hl 0 rfl) ?_
      refine lv_iload_n hx hb dX0_longest_63 rfl (lv_at hl 3 rfl) ?_
      refine lv_iload_n hx hb dX0_longest_64 rfl (lv_at hl 1 rfl) ?_
      obtain ⟨r_9, h_9, hE⟩ := ob hE
      refine x_callV (rc1 := _) (rs1 := _) [.int x_7, .int x1] (E.2.2.1 0) hC hP hS hB hl.1 (wX0_runFrom k z x_7 x1 r_9 h_9) (xC.c0 hC) (xw_get E _ (k := 0) (by decide)) (cwV 2 hts lkX0_361 rfl rfl rfl cdX0_runFrom ⟨Nat.le_of_ble_eq_true rfl, Nat.le_of_ble_eq_true rfl⟩) rfl rfl (lv_room (Nat.le_of_ble_eq_true rfl)) ⟨Nat.le_of_eq (Nat.zero_add _), Nat.le_of_eq (Nat.zero_add _)⟩ dX0_longest_65 (fun H locs cells slots hP hS hB => ?_)
      show W p l e _ s m args below meth c H locs cells slots _ (F0 m _ ls (.int r_9 :: []))
      refine lv_if_ne (tgt := 75) hx hb dX0_longest_68 (by decide) (fun c_10 => ?_) (fun c_10 => ?_)
      · have hE := iq c_10 hE
        refine lv_iload_n hx hb dX0_longest_75 rfl (lv_at hl 3 rfl) ?_
        obtain rfl := Option.some.inj hE
        exact x_iret hC hP hS hB dX0_longest_76
      · have hE := ip c_10 hE
        refine lv_iconst (v := -1) hx hb dX0_longest_71 (by decide) ?_
        refine lv_goto (tgt := 76) hx hb dX0_longest_72 (by decide) ?_
        obtain rfl := Option.some.inj hE
        exact x_iret hC hP hS hB dX0_longest_76
    · have hE := ip c_8 hE
      refine lv_aload_n hx hb dX0_longest_53 rfl (lv_at hl 0 rfl) ?_
      refine lv_iload_n hx hb dX0_longest_54 rfl (lv_at hl 3 rfl) ?_
      refine lv_iload_n hx hb dX0_longest_55 rfl (lv_at hl 1 rfl) ?_
      obtain ⟨r_11, h_11, hE⟩ := ob hE
      refine x_callV (rc1 := _) (rs1 := _) [.int x_7, .int x1] (E.2.2.1 0) hC hP hS hB hl.1 (wX0_runFrom k z x_7 x1 r_11 h_11) (xC.c0 hC) (xw_get E _ (k := 0) (by decide)) (cwV 2 hts lkX0_361 rfl rfl rfl cdX0_runFrom ⟨Nat.le_of_ble_eq_true rfl, Nat.le_of_ble_eq_true rfl⟩) rfl rfl (lv_room (Nat.le_of_ble_eq_true rfl)) ⟨Nat.le_of_eq (Nat.zero_add _), Nat.le_of_eq (Nat.zero_add _)⟩ dX0_longest_56 (fun H locs cells slots hP hS hB => ?_)
      show W p l e _ s m args below meth c H locs cells slots _ (F0 m _ ls (.int r_11 :: []))
      refine lv_goto (tgt := 76) hx hb dX0_longest_59 (by decide) ?_
      obtain rfl := Option.some.inj hE
      exact x_iret hC hP hS hB dX0_longest_76
  · have hE := ip c_2 hE
    refine lv_bipush (v := -2) hx hb dX0_longest_9 (by decide) ?_
    obtain rfl := Option.some.inj hE
    exact x_iret hC hP hS hB dX0_longest_11
noncomputable def fX0_arc_B16 (k : Nat) (v1 : Int32) (w : XS) (a : Int32 × Int32) : Option ((Int32 × Int32) ⊕ Int32) := if (30 : Int32) ≤ a.2 then (some (.inr a.1)) else ((fX0_barsFrom k w a.2 v1).bind fun r_4 => (fX0_barsFrom k w a.1 v1).bind fun r_5 => if r_4 ≤ r_5 then (some (.inl (a.1, (a.2 + (1 : Int32))))) else (some (.inl (a.2, (a.2 + (1 : Int32))))))
set_option maxHeartbeats 1000000 in
theorem wX0_arc_B16 {p : Program} {l : Launch} {e : Env} {s : State} {m : MethodId} {args : Array Value} {below : List Frame} {meth : Method} {c : Code} {E : XE} {Q : State → Prop} (k : Nat) (v1 : Int32) (w : XS) (hC : xC E RX0 cX0_arc 4 (some .int) p s m args meth c) (a : Int32 × Int32) (y : (Int32 × Int32) ⊕ Int32) (hE : fX0_arc_B16 k v1 w a = some y) (hc : ∀ a : Int32 × Int32, y = .inl a → xW p l e rmX0_arc s m args below meth c E 4 Q 0 0 16 [(0, .ref (E.2.2.1 0)), (1, .int v1), (2, .int a.1), (3, .int a.2)] [] w) (hx1 : ∀ b : Int32, y = .inr b → xW p l e rmX0_arc s m args below meth c E 4 Q 0 0 45 [(2, .int b)] [] w) : xW p l e rmX0_arc s m args below meth c E 4 Q 0 0 16 [(0, .ref (E.2.2.1 0)), (1, .int v1), (2, .int a.1), (3, .int a.2)] [] w := by
  intro H locs cells slots ls hP hS hB hl
  have hx := hC.1
  have hb := hC.2.1
  have hown := hC.2.2.2.2.2.1
  have hts := hC.2.2.2.2.2.2.1
  unfold fX0_arc_B16 at hE
  refine lv_iload_n hx hb dX0_arc_16 rfl (lv_at hl 3 rfl) ?_
  refine lv_bipush (v := 30) hx hb dX0_arc_17 (by decide) ?_
  refine lv_icmp_ge (tgt := 45) hx hb dX0_arc_19 (by decide) (fun c_3 => ?_) (fun c_3 => ?_)
  · have hE := ip c_3 hE
    exact hx1 _ (Option.some.inj hE).symm H locs cells slots ls hP hS hB (lv_sub hl [2] rfl)
  · have hE := iq c_3 hE
    refine lv_aload_n hx hb dX0_arc_22 rfl (lv_at hl 0 rfl) ?_
    refine lv_iload_n hx hb dX0_arc_23 rfl (lv_at hl 3 rfl) ?_
    refine lv_iload_n hx hb dX0_arc_24 rfl (lv_at hl 1 rfl) ?_
    obtain ⟨r_4, h_4, hE⟩ := ob hE
    refine x_callV (rc1 := _) (rs1 := _) [.int a.2, .int v1] (E.2.2.1 0) hC hP hS hB hl.1 (wX0_barsFrom k w a.2 v1 r_4 h_4) (xC.c0 hC) (xw_get E _ (k := 0) (by decide)) (cwV 2 hts lkX0_266 rfl rfl rfl cdX0_barsFrom ⟨Nat.le_of_ble_eq_true rfl, Nat.le_of_ble_eq_true rfl⟩) rfl rfl (lv_room (Nat.le_of_ble_eq_true rfl)) ⟨Nat.le_of_eq (Nat.zero_add _), Nat.le_of_eq (Nat.zero_add _)⟩ dX0_arc_25 (fun H locs cells slots hP hS hB => ?_)
    show W p l e _ s m args below meth c H locs cells slots _ (F0 m _ ls (.int r_4 :: []))
    refine lv_aload_n hx hb dX0_arc_28 rfl (lv_at hl 0 rfl) ?_
    refine lv_iload_n hx hb dX0_arc_29 rfl (lv_at hl 2 rfl) ?_
    refine lv_iload_n hx hb dX0_arc_30 rfl (lv_at hl 1 rfl) ?_
    obtain ⟨r_5, h_5, hE⟩ := ob hE
    refine x_callV (rc1 := _) (rs1 := _) [.int a.1, .int v1] (E.2.2.1 0) hC hP hS hB hl.1 (wX0_barsFrom k w a.1 v1 r_5 h_5) (xC.c0 hC) (xw_get E _ (k := 0) (by decide)) (cwV 2 hts lkX0_266 rfl rfl rfl cdX0_barsFrom ⟨Nat.le_of_ble_eq_true rfl, Nat.le_of_ble_eq_true rfl⟩) rfl rfl (lv_room (Nat.le_of_ble_eq_true rfl)) ⟨Nat.le_of_eq (Nat.zero_add _), Nat.le_of_eq (Nat.zero_add _)⟩ dX0_arc_31 (fun H locs cells slots hP hS hB => ?_)
    show W p l e _ s m args below meth c H locs cells slots _ (F0 m _ ls (.int r_5 :: .int r_4 :: []))
    refine lv_icmp_le (tgt := 39) hx hb dX0_arc_34 (by decide) (fun c_6 => ?_) (fun c_6 => ?_)
    · have hE := ip c_6 hE
      refine lv_iinc (v := (a.2 + (1 : Int32))) (lv' := [(3, .int (a.2 + (1 : Int32))), (0, .ref (E.2.2.1 0)), (1, .int v1), (2, .int a.1)]) hx hb dX0_arc_39 hl (k := 3) rfl rfl (Nat.le_of_ble_eq_true rfl) rfl (fun ls hl => ?_)
      refine lv_goto (tgt := 16) hx hb dX0_arc_42 (by decide) ?_
      exact hc _ (Option.some.inj hE).symm H locs cells slots ls hP hS hB (lv_sub hl [1, 2, 3, 0] rfl)
    · have hE := iq c_6 hE
      refine lv_iload_n hx hb dX0_arc_37 rfl (lv_at hl 3 rfl) ?_
      refine lv_istore_n (lv' := [(2, .int a.2), (0, .ref (E.2.2.1 0)), (1, .int v1), (3, .int a.2)]) hx hb dX0_arc_38 rfl hl (Nat.le_of_ble_eq_true rfl) rfl (fun ls hl => ?_)
      refine lv_iinc (v := (a.2 + (1 : Int32))) (lv' := [(3, .int (a.2 + (1 : Int32))), (2, .int a.2), (0, .ref (E.2.2.1 0)), (1, .int v1)]) hx hb dX0_arc_39 hl (k := 3) rfl rfl (Nat.le_of_ble_eq_true rfl) rfl (fun ls hl => ?_)
      refine lv_goto (tgt := 16) hx hb dX0_arc_42 (by decide) ?_
      exact hc _ (Option.some.inj hE).symm H locs cells slots ls hP hS hB (lv_sub hl [2, 3, 1, 0] rfl)
noncomputable def fX0_arc (k : Nat) (z : XS) (x1 : Int32) : Option Int32 := (fX0_in x1 (1 : Int32) (30 : Int32)).bind fun r_1 => if r_1 = 0 then (some (-1 : Int32)) else ((lpo (fX0_arc_B16 k x1 z) k ((0 : Int32), (1 : Int32))).bind fun x_7 => some x_7)
set_option maxHeartbeats 1000000 in
theorem wX0_arc {l : Launch} {E : XE} (k : Nat) (z : XS) (x1 : Int32) (y : Int32) (hE : fX0_arc k z x1 = some y) : xM l yX0_arc (ws_ yX0_arc cX0_arc 4 (some .int)) rmX0_arc E z [.ref (E.2.2.1 0), .int x1] (some (.int y)) z := by
  refine x_met (own := RX0) (by decide) rfl (Nat.le_of_ble_eq_true rfl) (fun p e s m args below meth c hC => ?_)
  intro H locs cells slots ls hP hS hB hl
  have hx := hC.1
  have hb := hC.2.1
  have hown := hC.2.2.2.2.2.1
  have hts := hC.2.2.2.2.2.2.1
  have hl : lv_has ls 4 [(0, .ref (E.2.2.1 0)), (1, .int x1)] := hl
  unfold fX0_arc at hE
  refine lv_iload_n hx hb dX0_arc_0 rfl (lv_at hl 1 rfl) ?_
  refine lv_iconst (v := 1) hx hb dX0_arc_1 (by decide) ?_
  refine lv_bipush (v := 30) hx hb dX0_arc_2 (by decide) ?_
  obtain ⟨r_1, h_1, hE⟩ := ob hE
  refine s_calli [.int x1, .int (1 : Int32), .int (30 : Int32)] hC.sC hl.1 (wX0_in x1 (1 : Int32) (30 : Int32) r_1 h_1) (va_cwS 3 hts lkX0_58 rfl rfl rfl cdX0_in ⟨Nat.le_of_ble_eq_true rfl, Nat.le_of_ble_eq_true rfl⟩) rfl rfl (lv_room (Nat.le_of_ble_eq_true rfl)) (hB0 hB) dX0_arc_4 ?_
  refine lv_if_ne (tgt := 12) hx hb dX0_arc_7 (by decide) (fun c_2 => ?_) (fun c_2 => ?_)
  · have hE := iq c_2 hE
    refine lv_iconst (v := 0) hx hb dX0_arc_12 (by decide) ?_
    refine lv_istore_n (lv' := [(2, .int (0 : Int32)), (0, .ref (E.2.2.1 0)), (1, .int x1)]) hx hb dX0_arc_13 rfl hl (Nat.le_of_ble_eq_true rfl) rfl (fun ls hl => ?_)
    refine lv_iconst (v := 1) hx hb dX0_arc_14 (by decide) ?_
    refine lv_istore_n (lv' := [(3, .int (1 : Int32)), (2, .int (0 : Int32)), (0, .ref (E.2.2.1 0)), (1, .int x1)]) hx hb dX0_arc_15 rfl hl (Nat.le_of_ble_eq_true rfl) rfl (fun ls hl => ?_)
    obtain ⟨x_7, h_7, hE⟩ := ob hE
    refine lpo_walk (fun p_7 : Int32 × Int32 => xW p l e rmX0_arc s m args below meth c E 4 (xQ E rmX0_arc below args s (some (.int y)) z) 0 0 16 [(0, .ref (E.2.2.1 0)), (1, .int x1), (2, .int p_7.1), (3, .int p_7.2)] [] z) (fun q_7 : Int32 => xW p l e rmX0_arc s m args below meth c E 4 (xQ E rmX0_arc below args s (some (.int y)) z) 0 0 45 [(2, .int q_7)] [] z) (fun a_7 y_7 hB_7 hc_7 hx_7 => wX0_arc_B16 k x1 z hC a_7 y_7 hB_7 hc_7 hx_7) _ _ x_7 h_7 ?_ H locs cells slots ls hP hS hB (lv_sub hl [2, 3, 1, 0] rfl)
    intro H locs cells slots ls hP hS hB hl
    refine lv_iload_n hx hb dX0_arc_45 rfl (lv_at hl 0 rfl) ?_
    obtain rfl := Option.some.inj hE
    exact x_iret hC hP hS hB dX0_arc_46
  · have hE := ip c_2 hE
    refine lv_iconst (v := -1) hx hb dX0_arc_10 (by decide) ?_
    obtain rfl := Option.some.inj hE
    exact x_iret hC hP hS hB dX0_arc_11
noncomputable def fX0_quiet_B16 (k : Nat) (v1 : Int32) (w : XS) (a : Int32 × Int32) : Option ((Int32 × Int32) ⊕ Int32) := if (30 : Int32) ≤ a.2 then (some (.inr a.1)) else ((fX0_barsFrom k w a.2 v1).bind fun r_4 => if r_4 = 0 then (some (.inl ((a.1 + (1 : Int32)), (a.2 + (1 : Int32))))) else (some (.inl ((a.1 + (0 : Int32)), (a.2 + (1 : Int32))))))
set_option maxHeartbeats 1000000 in
theorem wX0_quiet_B16 {p : Program} {l : Launch} {e : Env} {s : State} {m : MethodId} {args : Array Value} {below : List Frame} {meth : Method} {c : Code} {E : XE} {Q : State → Prop} (k : Nat) (v1 : Int32) (w : XS) (hC : xC E RX0 cX0_quiet 4 (some .int) p s m args meth c) (a : Int32 × Int32) (y : (Int32 × Int32) ⊕ Int32) (hE : fX0_quiet_B16 k v1 w a = some y) (hc : ∀ a : Int32 × Int32, y = .inl a → xW p l e rmX0_quiet s m args below meth c E 4 Q 0 0 16 [(0, .ref (E.2.2.1 0)), (1, .int v1), (2, .int a.1), (3, .int a.2)] [] w) (hx1 : ∀ b : Int32, y = .inr b → xW p l e rmX0_quiet s m args below meth c E 4 Q 0 0 45 [(2, .int b)] [] w) : xW p l e rmX0_quiet s m args below meth c E 4 Q 0 0 16 [(0, .ref (E.2.2.1 0)), (1, .int v1), (2, .int a.1), (3, .int a.2)] [] w := by
  intro H locs cells slots ls hP hS hB hl
  have hx := hC.1
  have hb := hC.2.1
  have hown := hC.2.2.2.2.2.1
  have hts := hC.2.2.2.2.2.2.1
  unfold fX0_quiet_B16 at hE
  refine lv_iload_n hx hb dX0_quiet_16 rfl (lv_at hl 3 rfl) ?_
  refine lv_bipush (v := 30) hx hb dX0_quiet_17 (by decide) ?_
  refine lv_icmp_ge (tgt := 45) hx hb dX0_quiet_19 (by decide) (fun c_3 => ?_) (fun c_3 => ?_)
  · have hE := ip c_3 hE
    exact hx1 _ (Option.some.inj hE).symm H locs cells slots ls hP hS hB (lv_sub hl [2] rfl)
  · have hE := iq c_3 hE
    refine lv_iload_n hx hb dX0_quiet_22 rfl (lv_at hl 2 rfl) ?_
    refine lv_aload_n hx hb dX0_quiet_23 rfl (lv_at hl 0 rfl) ?_
    refine lv_iload_n hx hb dX0_quiet_24 rfl (lv_at hl 3 rfl) ?_
    refine lv_iload_n hx hb dX0_quiet_25 rfl (lv_at hl 1 rfl) ?_
    obtain ⟨r_4, h_4, hE⟩ := ob hE
    refine x_callV (rc1 := _) (rs1 := _) [.int a.2, .int v1] (E.2.2.1 0) hC hP hS hB hl.1 (wX0_barsFrom k w a.2 v1 r_4 h_4) (xC.c0 hC) (xw_get E _ (k := 0) (by decide)) (cwV 2 hts lkX0_266 rfl rfl rfl cdX0_barsFrom ⟨Nat.le_of_ble_eq_true rfl, Nat.le_of_ble_eq_true rfl⟩) rfl rfl (lv_room (Nat.le_of_ble_eq_true rfl)) ⟨Nat.le_of_eq (Nat.zero_add _), Nat.le_of_eq (Nat.zero_add _)⟩ dX0_quiet_26 (fun H locs cells slots hP hS hB => ?_)
    show W p l e _ s m args below meth c H locs cells slots _ (F0 m _ ls (.int r_4 :: .int a.1 :: []))
    refine lv_if_ne (tgt := 36) hx hb dX0_quiet_29 (by decide) (fun c_5 => ?_) (fun c_5 => ?_)
    · have hE := iq c_5 hE
      refine lv_iconst (v := 0) hx hb dX0_quiet_36 (by decide) ?_
      refine lv_iadd hx hb dX0_quiet_37 ?_
      refine lv_istore_n (lv' := [(2, .int (a.1 + (0 : Int32))), (0, .ref (E.2.2.1 0)), (1, .int v1), (3, .int a.2)]) hx hb dX0_quiet_38 rfl hl (Nat.le_of_ble_eq_true rfl) rfl (fun ls hl => ?_)
      refine lv_iinc (v := (a.2 + (1 : Int32))) (lv' := [(3, .int (a.2 + (1 : Int32))), (2, .int (a.1 + (0 : Int32))), (0, .ref (E.2.2.1 0)), (1, .int v1)]) hx hb dX0_quiet_39 hl (k := 3) rfl rfl (Nat.le_of_ble_eq_true rfl) rfl (fun ls hl => ?_)
      refine lv_goto (tgt := 16) hx hb dX0_quiet_42 (by decide) ?_
      exact hc _ (Option.some.inj hE).symm H locs cells slots ls hP hS hB (lv_sub hl [2, 3, 1, 0] rfl)
    · have hE := ip c_5 hE
      refine lv_iconst (v := 1) hx hb dX0_quiet_32 (by decide) ?_
      refine lv_goto (tgt := 37) hx hb dX0_quiet_33 (by decide) ?_
      refine lv_iadd hx hb dX0_quiet_37 ?_
      refine lv_istore_n (lv' := [(2, .int (a.1 + (1 : Int32))), (0, .ref (E.2.2.1 0)), (1, .int v1), (3, .int a.2)]) hx hb dX0_quiet_38 rfl hl (Nat.le_of_ble_eq_true rfl) rfl (fun ls hl => ?_)
      refine lv_iinc (v := (a.2 + (1 : Int32))) (lv' := [(3, .int (a.2 + (1 : Int32))), (2, .int (a.1 + (1 : Int32))), (0, .ref (E.2.2.1 0)), (1, .int v1)]) hx hb dX0_quiet_39 hl (k := 3) rfl rfl (Nat.le_of_ble_eq_true rfl) rfl (fun ls hl => ?_)
      refine lv_goto (tgt := 16) hx hb dX0_quiet_42 (by decide) ?_
      exact hc _ (Option.some.inj hE).symm H locs cells slots ls hP hS hB (lv_sub hl [2, 3, 1, 0] rfl)
noncomputable def fX0_quiet (k : Nat) (z : XS) (x1 : Int32) : Option Int32 := (fX0_in x1 (1 : Int32) (30 : Int32)).bind fun r_1 => if r_1 = 0 then (some (-1 : Int32)) else ((lpo (fX0_quiet_B16 k x1 z) k ((0 : Int32), (0 : Int32))).bind fun x_6 => some x_6)
set_option maxHeartbeats 1000000 in
theorem wX0_quiet {l : Launch} {E : XE} (k : Nat) (z : XS) (x1 : Int32) (y : Int32) (hE : fX0_quiet k z x1 = some y) : xM l yX0_quiet (ws_ yX0_quiet cX0_quiet 4 (some .int)) rmX0_quiet E z [.ref (E.2.2.1 0), .int x1] (some (.int y)) z := by
  refine x_met (own := RX0) (by decide) rfl (Nat.le_of_ble_eq_true rfl) (fun p e s m args below meth c hC => ?_)
  intro H locs cells slots ls hP hS hB hl
  have hx := hC.1
  have hb := hC.2.1
  have hown := hC.2.2.2.2.2.1
  have hts := hC.2.2.2.2.2.2.1
  have hl : lv_has ls 4 [(0, .ref (E.2.2.1 0)), (1, .int x1)] := hl
  unfold fX0_quiet at hE
  refine lv_iload_n hx hb dX0_quiet_0 rfl (lv_at hl 1 rfl) ?_
  refine lv_iconst (v := 1) hx hb dX0_quiet_1 (by decide) ?_
  refine lv_bipush (v := 30) hx hb dX0_quiet_2 (by decide) ?_
  obtain ⟨r_1, h_1, hE⟩ := ob hE
  refine s_calli [.int x1, .int (1 : Int32), .int (30 : Int32)] hC.sC hl.1 (wX0_in x1 (1 : Int32) (30 : Int32) r_1 h_1) (va_cwS 3 hts lkX0_58 rfl rfl rfl cdX0_in ⟨Nat.le_of_ble_eq_true rfl, Nat.le_of_ble_eq_true rfl⟩) rfl rfl (lv_room (Nat.le_of_ble_eq_true rfl)) (hB0 hB) dX0_quiet_4 ?_
  refine lv_if_ne (tgt := 12) hx hb dX0_quiet_7 (by decide) (fun c_2 => ?_) (fun c_2 => ?_)
  · have hE := iq c_2 hE
    refine lv_iconst (v := 0) hx hb dX0_quiet_12 (by decide) ?_
    refine lv_istore_n (lv' := [(2, .int (0 : Int32)), (0, .ref (E.2.2.1 0)), (1, .int x1)]) hx hb dX0_quiet_13 rfl hl (Nat.le_of_ble_eq_true rfl) rfl (fun ls hl => ?_)
    refine lv_iconst (v := 0) hx hb dX0_quiet_14 (by decide) ?_
    refine lv_istore_n (lv' := [(3, .int (0 : Int32)), (2, .int (0 : Int32)), (0, .ref (E.2.2.1 0)), (1, .int x1)]) hx hb dX0_quiet_15 rfl hl (Nat.le_of_ble_eq_true rfl) rfl (fun ls hl => ?_)
    obtain ⟨x_6, h_6, hE⟩ := ob hE
    refine lpo_walk (fun p_6 : Int32 × Int32 => xW p l e rmX0_quiet s m args below meth c E 4 (xQ E rmX0_quiet below args s (some (.int y)) z) 0 0 16 [(0, .ref (E.2.2.1 0)), (1, .int x1), (2, .int p_6.1), (3, .int p_6.2)] [] z) (fun q_6 : Int32 => xW p l e rmX0_quiet s m args below meth c E 4 (xQ E rmX0_quiet below args s (some (.int y)) z) 0 0 45 [(2, .int q_6)] [] z) (fun a_6 y_6 hB_6 hc_6 hx_6 => wX0_quiet_B16 k x1 z hC a_6 y_6 hB_6 hc_6 hx_6) _ _ x_6 h_6 ?_ H locs cells slots ls hP hS hB (lv_sub hl [2, 3, 1, 0] rfl)
    intro H locs cells slots ls hP hS hB hl
    refine lv_iload_n hx hb dX0_quiet_45 rfl (lv_at hl 0 rfl) ?_
    obtain rfl := Option.some.inj hE
    exact x_iret hC hP hS hB dX0_quiet_46
  · have hE := ip c_2 hE
    refine lv_iconst (v := -1) hx hb dX0_quiet_10 (by decide) ?_
    obtain rfl := Option.some.inj hE
    exact x_iret hC hP hS hB dX0_quiet_11
noncomputable def fX0_changed_B4 (k : Nat)  (w : XS) (a : Int32 × Int32) : Option ((Int32 × Int32) ⊕ Int32) := if (30 : Int32) ≤ a.2 then (some (.inr a.1)) else ((fX0_kindAt w a.2).bind fun r_2 => if ib ((2 : Int32) + a.2) 190 then none else (if r_2 = (w.2.1 18 ((2 : Int32) + a.2).toNatClampNeg) then (some (.inl ((a.1 ||| (0 : Int32)), (a.2 + (1 : Int32))))) else (some (.inl ((a.1 ||| ((1 : Int32) <<< (a.2 &&& 31))), (a.2 + (1 : Int32)))))))
set_option maxHeartbeats 1000000 in
theorem wX0_changed_B4 {p : Program} {l : Launch} {e : Env} {s : State} {m : MethodId} {args : Array Value} {below : List Frame} {meth : Method} {c : Code} {E : XE} {Q : State → Prop} (k : Nat)  (w : XS) (hC : xC E RX0 cX0_changed 3 (some .int) p s m args meth c) (a : Int32 × Int32) (y : (Int32 × Int32) ⊕ Int32) (hE : fX0_changed_B4 k  w a = some y) (hc : ∀ a : Int32 × Int32, y = .inl a → xW p l e rmX0_changed s m args below meth c E 3 Q 0 0 4 [(0, .ref (E.2.2.1 0)), (1, .int a.1), (2, .int a.2)] [] w) (hx1 : ∀ b : Int32, y = .inr b → xW p l e rmX0_changed s m args below meth c E 3 Q 0 0 45 [(1, .int b)] [] w) : xW p l e rmX0_changed s m args below meth c E 3 Q 0 0 4 [(0, .ref (E.2.2.1 0)), (1, .int a.1), (2, .int a.2)] [] w := by
  intro H locs cells slots ls hP hS hB hl
  have hx := hC.1
  have hb := hC.2.1
  have hown := hC.2.2.2.2.2.1
  have hts := hC.2.2.2.2.2.2.1
  unfold fX0_changed_B4 at hE
  refine lv_iload_n hx hb dX0_changed_4 rfl (lv_at hl 2 rfl) ?_
  refine lv_bipush (v := 30) hx hb dX0_changed_5 (by decide) ?_
  refine lv_icmp_ge (tgt := 45) hx hb dX0_changed_7 (by decide) (fun c_1 => ?_) (fun c_1 => ?_)
  · have hE := ip c_1 hE
    exact hx1 _ (Option.some.inj hE).symm H locs cells slots ls hP hS hB (lv_sub hl [1] rfl)
  · have hE := iq c_1 hE
    refine lv_iload_n hx hb dX0_changed_10 rfl (lv_at hl 1 rfl) ?_
    refine lv_aload_n hx hb dX0_changed_11 rfl (lv_at hl 0 rfl) ?_
    refine lv_iload_n hx hb dX0_changed_12 rfl (lv_at hl 2 rfl) ?_
    obtain ⟨r_2, h_2, hE⟩ := ob hE
    refine x_callV (rc1 := _) (rs1 := _) [.int a.2] (E.2.2.1 0) hC hP hS hB hl.1 (wX0_kindAt w a.2 r_2 h_2) (xC.c0 hC) (xw_get E _ (k := 0) (by decide)) (cwV 1 hts lkX0_172 rfl rfl rfl cdX0_kindAt ⟨Nat.le_of_ble_eq_true rfl, Nat.le_of_ble_eq_true rfl⟩) rfl rfl (lv_room (Nat.le_of_ble_eq_true rfl)) ⟨Nat.le_of_eq (Nat.zero_add _), Nat.le_of_eq (Nat.zero_add _)⟩ dX0_changed_13 (fun H locs cells slots hP hS hB => ?_)
    show W p l e _ s m args below meth c H locs cells slots _ (F0 m _ ls (.int r_2 :: .int a.1 :: []))
    refine lv_aload_n hx hb dX0_changed_16 rfl (lv_at hl 0 rfl) ?_
    refine gX_25 hC hP dX0_changed_17 ?_
    refine gN_65_2 hC hP dX0_changed_20 ?_
    refine lv_iconst (v := 2) hx hb dX0_changed_23 (by decide) ?_
    refine lv_iload_n hx hb dX0_changed_24 rfl (lv_at hl 2 rfl) ?_
    refine lv_iadd hx hb dX0_changed_25 ?_
    obtain ⟨c_3, hE⟩ := og hE
    refine x_iald hC hP (⟨by decide, rfl, rfl⟩ : xint 18 190) c_3 dX0_changed_26 ?_
    refine lv_icmp_ne (tgt := 34) hx hb dX0_changed_27 (by decide) (fun c_4 => ?_) (fun c_4 => ?_)
    · have hE := iq c_4 hE
      refine lv_iconst (v := 1) hx hb dX0_changed_34 (by decide) ?_
      refine lv_iload_n hx hb dX0_changed_35 rfl (lv_at hl 2 rfl) ?_
      refine lv_ishl hx hb dX0_changed_36 ?_
      refine lv_ior hx hb dX0_changed_37 ?_
      refine lv_istore_n (lv' := [(1, .int (a.1 ||| ((1 : Int32) <<< (a.2 &&& 31)))), (0, .ref (E.2.2.1 0)), (2, .int a.2)]) hx hb dX0_changed_38 rfl hl (Nat.le_of_ble_eq_true rfl) rfl (fun ls hl => ?_)
      refine lv_iinc (v := (a.2 + (1 : Int32))) (lv' := [(2, .int (a.2 + (1 : Int32))), (1, .int (a.1 ||| ((1 : Int32) <<< (a.2 &&& 31)))), (0, .ref (E.2.2.1 0))]) hx hb dX0_changed_39 hl (k := 2) rfl rfl (Nat.le_of_ble_eq_true rfl) rfl (fun ls hl => ?_)
      refine lv_goto (tgt := 4) hx hb dX0_changed_42 (by decide) ?_
      exact hc _ (Option.some.inj hE).symm H locs cells slots ls hP hS hB (lv_sub hl [2, 1, 0] rfl)
    · have hE := ip c_4 hE
      refine lv_iconst (v := 0) hx hb dX0_changed_30 (by decide) ?_
      refine lv_goto (tgt := 37) hx hb dX0_changed_31 (by decide) ?_
      refine lv_ior hx hb dX0_changed_37 ?_
      refine lv_istore_n (lv' := [(1, .int (a.1 ||| (0 : Int32))), (0, .ref (E.2.2.1 0)), (2, .int a.2)]) hx hb dX0_changed_38 rfl hl (Nat.le_of_ble_eq_true rfl) rfl (fun ls hl => ?_)
      refine lv_iinc (v := (a.2 + (1 : Int32))) (lv' := [(2, .int (a.2 + (1 : Int32))), (1, .int (a.1 ||| (0 : Int32))), (0, .ref (E.2.2.1 0))]) hx hb dX0_changed_39 hl (k := 2) rfl rfl (Nat.le_of_ble_eq_true rfl) rfl (fun ls hl => ?_)
      refine lv_goto (tgt := 4) hx hb dX0_changed_42 (by decide) ?_
      exact hc _ (Option.some.inj hE).symm H locs cells slots ls hP hS hB (lv_sub hl [2, 1, 0] rfl)
noncomputable def fX0_changed (k : Nat) (z : XS)  : Option Int32 := (lpo (fX0_changed_B4 k  z) k ((0 : Int32), (0 : Int32))).bind fun x_5 => some x_5
set_option maxHeartbeats 1000000 in
theorem wX0_changed {l : Launch} {E : XE} (k : Nat) (z : XS)  (y : Int32) (hE : fX0_changed k z  = some y) : xM l yX0_changed (ws_ yX0_changed cX0_changed 3 (some .int)) rmX0_changed E z [.ref (E.2.2.1 0)] (some (.int y)) z := by
  refine x_met (own := RX0) (by decide) rfl (Nat.le_of_ble_eq_true rfl) (fun p e s m args below meth c hC => ?_)
  intro H locs cells slots ls hP hS hB hl
  have hx := hC.1
  have hb := hC.2.1
  have hown := hC.2.2.2.2.2.1
  have hts := hC.2.2.2.2.2.2.1
  have hl : lv_has ls 3 [(0, .ref (E.2.2.1 0))] := hl
  unfold fX0_changed at hE
  refine lv_iconst (v := 0) hx hb dX0_changed_0 (by decide) ?_
  refine lv_istore_n (lv' := [(1, .int (0 : Int32)), (0, .ref (E.2.2.1 0))]) hx hb dX0_changed_1 rfl hl (Nat.le_of_ble_eq_true rfl) rfl (fun ls hl => ?_)
  refine lv_iconst (v := 0) hx hb dX0_changed_2 (by decide) ?_
  refine lv_istore_n (lv' := [(2, .int (0 : Int32)), (1, .int (0 : Int32)), (0, .ref (E.2.2.1 0))]) hx hb dX0_changed_3 rfl hl (Nat.le_of_ble_eq_true rfl) rfl (fun ls hl => ?_)
  obtain ⟨x_5, h_5, hE⟩ := ob hE
  refine lpo_walk (fun p_5 : Int32 × Int32 => xW p l e rmX0_changed s m args below meth c E 3 (xQ E rmX0_changed below args s (some (.int y)) z) 0 0 4 [(0, .ref (E.2.2.1 0)), (1, .int p_5.1), (2, .int p_5.2)] [] z) (fun q_5 : Int32 => xW p l e rmX0_changed s m args below meth c E 3 (xQ E rmX0_changed below args s (some (.int y)) z) 0 0 45 [(1, .int q_5)] [] z) (fun a_5 y_5 hB_5 hc_5 hx_5 => wX0_changed_B4 k  z hC a_5 y_5 hB_5 hc_5 hx_5) _ _ x_5 h_5 ?_ H locs cells slots ls hP hS hB (lv_sub hl [2, 1, 0] rfl)
  intro H locs cells slots ls hP hS hB hl
  refine lv_iload_n hx hb dX0_changed_45 rfl (lv_at hl 0 rfl) ?_
  obtain rfl := Option.some.inj hE
  exact x_iret hC hP hS hB dX0_changed_46
noncomputable def fX1_adds_14 (z : XS) (x2 : Int32) (x3 : Int32) (x4 : Int32) (x5 : Int32) : Option (Int32 × XS) := nm (upd (fun _ => 0) (0 : Int32).toNatClampNeg x3) fun f_2 => nm (upd f_2 (1 : Int32).toNatClampNeg x4) fun f_3 => nm (upd f_3 (2 : Int32).toNatClampNeg x5) fun f_4 => if ib x2 6 then none else (if ib (z.2.1 8 x2.toNatClampNeg) 8 then none else (nm (xA z (62 + (z.2.1 8 x2.toNatClampNeg).toNatClampNeg) (va_cpy f_4 (z.2.1 (62 + (z.2.1 8 x2.toNatClampNeg).toNatClampNeg)) 0 0 3)) fun z_7 => if ib x2 6 then none else (if ib x2 6 then none else (nm (xA z_7 8 (upd (z_7.2.1 8) x2.toNatClampNeg ((z_7.2.1 8 x2.toNatClampNeg) + (1 : Int32)))) fun z_9 => if ib x2 6 then none else (some ((z_9.2.1 8 x2.toNatClampNeg), z_9))))))
set_option maxHeartbeats 1000000 in
theorem wX1_adds_14 {l : Launch} {E : XE} (z : XS) (x2 : Int32) (x3 : Int32) (x4 : Int32) (x5 : Int32) (y : Int32 × XS) (hE : fX1_adds_14 z x2 x3 x4 x5 = some y) : xM l yX1_adds (ws_ yX1_adds cX1_adds 7 (some .int)) rmX1_adds_14 E z [.ref (E.2.2.1 1), .ref (E.2.2.1 14), .int x2, .int x3, .int x4, .int x5] (some (.int y.1)) y.2 := by
  refine x_met (own := RX1) (by decide) rfl (Nat.le_of_ble_eq_true rfl) (fun p e s m args below meth c hC => ?_)
  intro H locs cells slots ls hP hS hB hl
  have hx := hC.1
  have hb := hC.2.1
  have hown := hC.2.2.2.2.2.1
  have hts := hC.2.2.2.2.2.2.1
  have hl : lv_has ls 7 [(0, .ref (E.2.2.1 1)), (1, .ref (E.2.2.1 14)), (2, .int x2), (3, .int x3), (4, .int x4), (5, .int x5)] := hl
  unfold fX1_adds_14 at hE
  refine lv_iconst (v := 3) hx hb dX1_adds_0 (by decide) ?_
  refine t_new (rc1 := 0) (rs1 := 0) (n := 3) hC hP hS hB (by decide) rfl (by decide) ⟨Nat.le_of_ble_eq_true rfl, Nat.le_of_ble_eq_true rfl⟩ dX1_adds_1 (fun q_1 H cells slots hP hS hB hT => ?_)
  refine lv_dup hx hb dX1_adds_3 rfl ?_
  refine lv_iconst (v := 0) hx hb dX1_adds_4 (by decide) ?_
  refine lv_iload_n hx hb dX1_adds_5 rfl (lv_at hl 3 rfl) ?_
  obtain ⟨f_2, ef_2, hE⟩ := on hE
  refine t_ast hC hP hS hT (i := (0 : Int32)) (by decide) ef_2 dX1_adds_6 (fun H locs hP hS hT => ?_)
  refine lv_dup hx hb dX1_adds_7 rfl ?_
  refine lv_iconst (v := 1) hx hb dX1_adds_8 (by decide) ?_
  refine lv_iload hx hb dX1_adds_9 (lv_at hl 4 rfl) ?_
  obtain ⟨f_3, ef_3, hE⟩ := on hE
  refine t_ast hC hP hS hT (i := (1 : Int32)) (by decide) ef_3 dX1_adds_11 (fun H locs hP hS hT => ?_)
  refine lv_dup hx hb dX1_adds_12 rfl ?_
  refine lv_iconst (v := 2) hx hb dX1_adds_13 (by decide) ?_
  refine lv_iload hx hb dX1_adds_14 (lv_at hl 5 rfl) ?_
  obtain ⟨f_4, ef_4, hE⟩ := on hE
  refine t_ast hC hP hS hT (i := (2 : Int32)) (by decide) ef_4 dX1_adds_16 (fun H locs hP hS hT => ?_)
  refine lv_astore (lv' := [(6, .ref q_1), (0, .ref (E.2.2.1 1)), (1, .ref (E.2.2.1 14)), (2, .int x2), (3, .int x3), (4, .int x4), (5, .int x5)]) hx hb dX1_adds_17 hl (Nat.le_of_ble_eq_true rfl) rfl (fun ls hl => ?_)
  refine lv_aload hx hb dX1_adds_19 (lv_at hl 0 rfl) ?_
  refine lv_aload_n hx hb dX1_adds_21 rfl (lv_at hl 2 rfl) ?_
  refine lv_aload_n hx hb dX1_adds_22 rfl (lv_at hl 1 rfl) ?_
  refine gS_9_1 hC hP dX1_adds_23 ?_
  refine lv_iload_n hx hb dX1_adds_26 rfl (lv_at hl 3 rfl) ?_
  obtain ⟨c_5, hE⟩ := og hE
  refine x_iald hC hP (⟨by decide, rfl, rfl⟩ : xint 8 6) c_5 dX1_adds_27 ?_
  obtain ⟨c_6, hE⟩ := og hE
  refine x_aald hC hP xo_14 c_6 dX1_adds_28 ?_
  obtain ⟨z_7, ez_7, hE⟩ := on hE
  refine t_callcopy hC hP hS hB hT hl.1 (xrow xo_14 c_6) (by decide) ez_7 (va_cwS 2 hts lkX1_56 rfl rfl rfl cdX1_copy ⟨Nat.le_of_ble_eq_true rfl, Nat.le_of_ble_eq_true rfl⟩) (lv_room (Nat.le_of_ble_eq_true rfl)) dX1_adds_29 (fun H locs hP hS => ?_)
  refine lv_aload_n hx hb dX1_adds_32 rfl (lv_at hl 1 rfl) ?_
  refine gS_9_1 hC hP dX1_adds_33 ?_
  refine lv_iload_n hx hb dX1_adds_36 rfl (lv_at hl 3 rfl) ?_
  refine lv_dup2_11 hx hb dX1_adds_37 rfl rfl ?_
  obtain ⟨c_8, hE⟩ := og hE
  refine x_iald hC hP (⟨by decide, rfl, rfl⟩ : xint 8 6) c_8 dX1_adds_38 ?_
  refine lv_iconst (v := 1) hx hb dX1_adds_39 (by decide) ?_
  refine lv_iadd hx hb dX1_adds_40 ?_
  obtain ⟨c_9, hE⟩ := og hE
  obtain ⟨z_9, ez_9, hE⟩ := on hE
  refine x_iast hC hP hS (⟨by decide, rfl, rfl⟩ : xint 8 6) c_9 ez_9 dX1_adds_41 (fun H locs hP hS => ?_)
  refine lv_aload_n hx hb dX1_adds_42 rfl (lv_at hl 1 rfl) ?_
  refine gS_9_1 hC hP dX1_adds_43 ?_
  refine lv_iload_n hx hb dX1_adds_46 rfl (lv_at hl 3 rfl) ?_
  obtain ⟨c_10, hE⟩ := og hE
  refine x_iald hC hP (⟨by decide, rfl, rfl⟩ : xint 8 6) c_10 dX1_adds_47 ?_
  obtain rfl := Option.some.inj hE
  exact x_iret hC hP hS hB dX1_adds_48
noncomputable def fX0_said (z : XS) (x1 : Int32) (x2 : Int32) (x3 : Int32) : Option (Int32 × XS) := if x1 = (-1 : Int32) then ((fX1_clears z (5 : Int32)).bind fun r_11 => some (r_11.1, r_11.2)) else ((fX0_isChild z x1).bind fun r_2 => if r_2 = 0 then (some ((-2 : Int32), z)) else ((fX0_isPlace x2).bind fun r_4 => if r_4 = 0 then (some ((-2 : Int32), z)) else ((fX0_in x3 (0 : Int32) (10 : Int32)).bind fun r_6 => if r_6 = 0 then (some ((-2 : Int32), z)) else (if (8 : Int32) ≤ (z.2.1 8 (5 : Int32).toNatClampNeg) then (some ((-2 : Int32), z)) else ((fX1_adds_14 z (5 : Int32) x1 x2 x3).bind fun r_10 => some (r_10.1, r_10.2))))))
set_option maxHeartbeats 1000000 in
theorem wX0_said {l : Launch} {E : XE} (z : XS) (x1 : Int32) (x2 : Int32) (x3 : Int32) (y : Int32 × XS) (hE : fX0_said z x1 x2 x3 = some y) : xM l yX0_said (ws_ yX0_said cX0_said 4 (some .int)) rmX0_said E z [.ref (E.2.2.1 0), .int x1, .int x2, .int x3] (some (.int y.1)) y.2 := by
  refine x_met (own := RX0) (by decide) rfl (Nat.le_of_ble_eq_true rfl) (fun p e s m args below meth c hC => ?_)
  intro H locs cells slots ls hP hS hB hl
  have hx := hC.1
  have hb := hC.2.1
  have hown := hC.2.2.2.2.2.1
  have hts := hC.2.2.2.2.2.2.1
  have hl : lv_has ls 4 [(0, .ref (E.2.2.1 0)), (1, .int x1), (2, .int x2), (3, .int x3)] := hl
  unfold fX0_said at hE
  refine lv_iload_n hx hb dX0_said_0 rfl (lv_at hl 1 rfl) ?_
  refine lv_iconst (v := -1) hx hb dX0_said_1 (by decide) ?_
  refine lv_icmp_ne (tgt := 14) hx hb dX0_said_2 (by decide) (fun c_1 => ?_) (fun c_1 => ?_)
  · have hE := iq c_1 hE
    refine lv_aload_n hx hb dX0_said_14 rfl (lv_at hl 0 rfl) ?_
    refine lv_iload_n hx hb dX0_said_15 rfl (lv_at hl 1 rfl) ?_
    obtain ⟨r_2, h_2, hE⟩ := ob hE
    refine x_callV (rc1 := _) (rs1 := _) [.int x1] (E.2.2.1 0) hC hP hS hB hl.1 (wX0_isChild z x1 r_2 h_2) (xC.c0 hC) (xw_get E _ (k := 0) (by decide)) (cwV 1 hts lkX0_159 rfl rfl rfl cdX0_isChild ⟨Nat.le_of_ble_eq_true rfl, Nat.le_of_ble_eq_true rfl⟩) rfl rfl (lv_room (Nat.le_of_ble_eq_true rfl)) ⟨Nat.le_of_eq (Nat.zero_add _), Nat.le_of_eq (Nat.zero_add _)⟩ dX0_said_16 (fun H locs cells slots hP hS hB => ?_)
    show W p l e _ s m args below meth c H locs cells slots _ (F0 m _ ls (.int r_2 :: []))
    refine lv_if_eq (tgt := 74) hx hb dX0_said_19 (by decide) (fun c_3 => ?_) (fun c_3 => ?_)
    · have hE := ip c_3 hE
      refine lv_bipush (v := -2) hx hb dX0_said_74 (by decide) ?_
      obtain rfl := Option.some.inj hE
      exact x_iret hC hP hS hB dX0_said_76
    · have hE := iq c_3 hE
      refine lv_iload_n hx hb dX0_said_22 rfl (lv_at hl 2 rfl) ?_
      obtain ⟨r_4, h_4, hE⟩ := ob hE
      refine s_calli [.int x2] hC.sC hl.1 (wX0_isPlace x2 r_4 h_4) (va_cwS 1 hts lkX0_68 rfl rfl rfl cdX0_isPlace ⟨Nat.le_of_ble_eq_true rfl, Nat.le_of_ble_eq_true rfl⟩) rfl rfl (lv_room (Nat.le_of_ble_eq_true rfl)) (hB0 hB) dX0_said_23 ?_
      refine lv_if_eq (tgt := 74) hx hb dX0_said_26 (by decide) (fun c_5 => ?_) (fun c_5 => ?_)
      · have hE := ip c_5 hE
        refine lv_bipush (v := -2) hx hb dX0_said_74 (by decide) ?_
        obtain rfl := Option.some.inj hE
        exact x_iret hC hP hS hB dX0_said_76
      · have hE := iq c_5 hE
        refine lv_iload_n hx hb dX0_said_29 rfl (lv_at hl 3 rfl) ?_
        refine lv_iconst (v := 0) hx hb dX0_said_30 (by decide) ?_
        refine lv_bipush (v := 10) hx hb dX0_said_31 (by decide) ?_
        obtain ⟨r_6, h_6, hE⟩ := ob hE
        refine s_calli [.int x3, .int (0 : Int32), .int (10 : Int32)] hC.sC hl.1 (wX0_in x3 (0 : Int32) (10 : Int32) r_6 h_6) (va_cwS 3 hts lkX0_58 rfl rfl rfl cdX0_in ⟨Nat.le_of_ble_eq_true rfl, Nat.le_of_ble_eq_true rfl⟩) rfl rfl (lv_room (Nat.le_of_ble_eq_true rfl)) (hB0 hB) dX0_said_33 ?_
        refine lv_if_eq (tgt := 74) hx hb dX0_said_36 (by decide) (fun c_7 => ?_) (fun c_7 => ?_)
        · have hE := ip c_7 hE
          refine lv_bipush (v := -2) hx hb dX0_said_74 (by decide) ?_
          obtain rfl := Option.some.inj hE
          exact x_iret hC hP hS hB dX0_said_76
        · have hE := iq c_7 hE
          refine lv_aload_n hx hb dX0_said_39 rfl (lv_at hl 0 rfl) ?_
          refine gX_21 hC hP dX0_said_40 ?_
          refine gN_62_1 hC hP dX0_said_43 ?_
          refine lv_iconst (v := 5) hx hb dX0_said_46 (by decide) ?_
          refine x_iald hC hP (⟨by decide, rfl, rfl⟩ : xint 8 6) (i := (5 : Int32)) (by decide) dX0_said_47 ?_
          refine lv_bipush (v := 8) hx hb dX0_said_48 (by decide) ?_
          refine lv_icmp_ge (tgt := 74) hx hb dX0_said_50 (by decide) (fun c_9 => ?_) (fun c_9 => ?_)
          · have hE := ip c_9 hE
            refine lv_bipush (v := -2) hx hb dX0_said_74 (by decide) ?_
            obtain rfl := Option.some.inj hE
            exact x_iret hC hP hS hB dX0_said_76
          · have hE := iq c_9 hE
            refine lv_aload_n hx hb dX0_said_53 rfl (lv_at hl 0 rfl) ?_
            refine gX_21 hC hP dX0_said_54 ?_
            refine lv_aload_n hx hb dX0_said_57 rfl (lv_at hl 0 rfl) ?_
            refine gX_21 hC hP dX0_said_58 ?_
            refine gN_364_1 hC hP dX0_said_61 ?_
            refine lv_iconst (v := 5) hx hb dX0_said_64 (by decide) ?_
            refine lv_iload_n hx hb dX0_said_65 rfl (lv_at hl 1 rfl) ?_
            refine lv_iload_n hx hb dX0_said_66 rfl (lv_at hl 2 rfl) ?_
            refine lv_iload_n hx hb dX0_said_67 rfl (lv_at hl 3 rfl) ?_
            obtain ⟨r_10, h_10, hE⟩ := ob hE
            refine x_callV (rc1 := 0) (rs1 := 0) [.ref (E.2.2.1 14), .int (5 : Int32), .int x1, .int x2, .int x3] (E.2.2.1 1) hC hP hS hB hl.1 (wX1_adds_14 z (5 : Int32) x1 x2 x3 r_10 h_10) (xC.c1 hC) (xw_get E _ (k := 1) (by decide)) (cwV 5 hts lkX0_319 rfl rfl rfl cdX1_adds ⟨Nat.le_of_ble_eq_true rfl, Nat.le_of_ble_eq_true rfl⟩) rfl rfl (lv_room (Nat.le_of_ble_eq_true rfl)) ⟨Nat.le_of_ble_eq_true rfl, Nat.le_of_ble_eq_true rfl⟩ dX0_said_68 (fun H locs cells slots hP hS hB => ?_)
            show W p l e _ s m args below meth c H locs cells slots _ (F0 m _ ls (.int r_10.1 :: []))
            refine lv_goto (tgt := 76) hx hb dX0_said_71 (by decide) ?_
            obtain rfl := Option.some.inj hE
            exact x_iret hC hP hS hB dX0_said_76
  · have hE := ip c_1 hE
    refine lv_aload_n hx hb dX0_said_5 rfl (lv_at hl 0 rfl) ?_
    refine gX_21 hC hP dX0_said_6 ?_
    refine lv_iconst (v := 5) hx hb dX0_said_9 (by decide) ?_
    obtain ⟨r_11, h_11, hE⟩ := ob hE
    refine x_callV (rc1 := _) (rs1 := _) [.int (5 : Int32)] (E.2.2.1 1) hC hP hS hB hl.1 (wX1_clears z (5 : Int32) r_11 h_11) (xC.c1 hC) (xw_get E _ (k := 1) (by decide)) (cwV 1 hts lkX0_313 rfl rfl rfl cdX1_clears ⟨Nat.le_of_ble_eq_true rfl, Nat.le_of_ble_eq_true rfl⟩) rfl rfl (lv_room (Nat.le_of_ble_eq_true rfl)) ⟨Nat.le_of_eq (Nat.zero_add _), Nat.le_of_eq (Nat.zero_add _)⟩ dX0_said_10 (fun H locs cells slots hP hS hB => ?_)
    show W p l e _ s m args below meth c H locs cells slots _ (F0 m _ ls (.int r_11.1 :: []))
    obtain rfl := Option.some.inj hE
    exact x_iret hC hP hS hB dX0_said_13
noncomputable def fX0_isLaw_B2 (k : Nat) (V : XV) (v1 : Nat) (a : Int32 × XS) : Option ((Int32 × XS) ⊕ (XS ⊕ XS)) := if (a.2.2.1 8 (5 : Int32).toNatClampNeg) ≤ a.1 then (some (.inr (.inl a.2))) else (if ib a.1 8 then none else (if ib a.1 8 then none else ((fX0_catchesBy_9 V a.2 v1 (a.2.2.1 (62 + a.1.toNatClampNeg) (0 : Int32).toNatClampNeg) (a.2.2.1 (62 + a.1.toNatClampNeg) (1 : Int32).toNatClampNeg) (1 : Int32)).bind fun r_7 => if ib a.1 8 then none else (if r_7.1 = (r_7.2.2.1 (62 + a.1.toNatClampNeg) (2 : Int32).toNatClampNeg) then (some (.inl ((a.1 + (1 : Int32)), r_7.2))) else (some (.inr (.inr r_7.2)))))))
set_option maxHeartbeats 1000000 in
theorem wX0_isLaw_B2 {p : Program} {l : Launch} {e : Env} {s : State} {m : MethodId} {args : Array Value} {below : List Frame} {meth : Method} {c : Code} {E : XE} {Q : State → Prop} (k : Nat) (v1 : Nat) (hC : xC E RX0 cX0_isLaw 3 (some .boolean) p s m args meth c) (a : Int32 × XS) (y : (Int32 × XS) ⊕ (XS ⊕ XS)) (hE : fX0_isLaw_B2 k E.2.2.2.2.2 v1 a = some y) (hc : ∀ a : Int32 × XS, y = .inl a → xW p l e rmX0_isLaw s m args below meth c E 3 Q 0 0 2 [(0, .ref (E.2.2.1 0)), (1, .ref v1), (2, .int a.1)] [] a.2) (hx1 : ∀ b : XS, y = .inr (.inl b) → xW p l e rmX0_isLaw s m args below meth c E 3 Q 0 0 72 [] [] b) (hx2 : ∀ b : XS, y = .inr (.inr b) → xW p l e rmX0_isLaw s m args below meth c E 3 Q 0 0 64 [] [] b) : xW p l e rmX0_isLaw s m args below meth c E 3 Q 0 0 2 [(0, .ref (E.2.2.1 0)), (1, .ref v1), (2, .int a.1)] [] a.2 := by
  intro H locs cells slots ls hP hS hB hl
  have hx := hC.1
  have hb := hC.2.1
  have hown := hC.2.2.2.2.2.1
  have hts := hC.2.2.2.2.2.2.1
  unfold fX0_isLaw_B2 at hE
  refine lv_iload_n hx hb dX0_isLaw_2 rfl (lv_at hl 2 rfl) ?_
  refine lv_aload_n hx hb dX0_isLaw_3 rfl (lv_at hl 0 rfl) ?_
  refine gX_21 hC hP dX0_isLaw_4 ?_
  refine gN_62_1 hC hP dX0_isLaw_7 ?_
  refine lv_iconst (v := 5) hx hb dX0_isLaw_10 (by decide) ?_
  refine x_iald hC hP (⟨by decide, rfl, rfl⟩ : xint 8 6) (i := (5 : Int32)) (by decide) dX0_isLaw_11 ?_
  refine lv_icmp_ge (tgt := 72) hx hb dX0_isLaw_12 (by decide) (fun c_2 => ?_) (fun c_2 => ?_)
  · have hE := ip c_2 hE
    exact hx1 _ (Option.some.inj hE).symm H locs cells slots ls hP hS hB (lv_sub hl [] rfl)
  · have hE := iq c_2 hE
    refine lv_aload_n hx hb dX0_isLaw_15 rfl (lv_at hl 0 rfl) ?_
    refine lv_aload_n hx hb dX0_isLaw_16 rfl (lv_at hl 1 rfl) ?_
    refine lv_aload_n hx hb dX0_isLaw_17 rfl (lv_at hl 0 rfl) ?_
    refine gX_21 hC hP dX0_isLaw_18 ?_
    refine gN_65_1 hC hP dX0_isLaw_21 ?_
    refine lv_aload_n hx hb dX0_isLaw_24 rfl (lv_at hl 0 rfl) ?_
    refine gX_21 hC hP dX0_isLaw_25 ?_
    refine gN_364_1 hC hP dX0_isLaw_28 ?_
    refine lv_iload_n hx hb dX0_isLaw_31 rfl (lv_at hl 2 rfl) ?_
    obtain ⟨c_3, hE⟩ := og hE
    refine x_aald hC hP xo_14 c_3 dX0_isLaw_32 ?_
    refine lv_iconst (v := 0) hx hb dX0_isLaw_33 (by decide) ?_
    refine x_iald hC hP (xrow xo_14 c_3) (i := (0 : Int32)) (by decide) dX0_isLaw_34 ?_
    refine lv_aload_n hx hb dX0_isLaw_35 rfl (lv_at hl 0 rfl) ?_
    refine gX_21 hC hP dX0_isLaw_36 ?_
    refine gN_364_1 hC hP dX0_isLaw_39 ?_
    refine lv_iload_n hx hb dX0_isLaw_42 rfl (lv_at hl 2 rfl) ?_
    obtain ⟨c_5, hE⟩ := og hE
    refine x_aald hC hP xo_14 c_5 dX0_isLaw_43 ?_
    refine lv_iconst (v := 1) hx hb dX0_isLaw_44 (by decide) ?_
    refine x_iald hC hP (xrow xo_14 c_5) (i := (1 : Int32)) (by decide) dX0_isLaw_45 ?_
    refine lv_iconst (v := 1) hx hb dX0_isLaw_46 (by decide) ?_
    obtain ⟨r_7, h_7, hE⟩ := ob hE
    refine x_callV (rc1 := _) (rs1 := _) [.ref v1, .ref (E.2.2.1 9), .int (a.2.2.1 (62 + a.1.toNatClampNeg) (0 : Int32).toNatClampNeg), .int (a.2.2.1 (62 + a.1.toNatClampNeg) (1 : Int32).toNatClampNeg), .int (1 : Int32)] (E.2.2.1 0) hC hP hS hB hl.1 (wX0_catchesBy_9 a.2 v1 (a.2.2.1 (62 + a.1.toNatClampNeg) (0 : Int32).toNatClampNeg) (a.2.2.1 (62 + a.1.toNatClampNeg) (1 : Int32).toNatClampNeg) (1 : Int32) r_7 h_7) (xC.c0 hC) (xw_get E _ (k := 0) (by decide)) (cwV 5 hts lkX0_151 rfl rfl rfl cdX0_catchesBy ⟨Nat.le_of_ble_eq_true rfl, Nat.le_of_ble_eq_true rfl⟩) rfl rfl (lv_room (Nat.le_of_ble_eq_true rfl)) ⟨Nat.le_of_eq (Nat.zero_add _), Nat.le_of_eq (Nat.zero_add _)⟩ dX0_isLaw_47 (fun H locs cells slots hP hS hB => ?_)
    show W p l e _ s m args below meth c H locs cells slots _ (F0 m _ ls (.int r_7.1 :: []))
    refine lv_aload_n hx hb dX0_isLaw_50 rfl (lv_at hl 0 rfl) ?_
    refine gX_21 hC hP dX0_isLaw_51 ?_
    refine gN_364_1 hC hP dX0_isLaw_54 ?_
    refine lv_iload_n hx hb dX0_isLaw_57 rfl (lv_at hl 2 rfl) ?_
    obtain ⟨c_8, hE⟩ := og hE
    refine x_aald hC hP xo_14 c_8 dX0_isLaw_58 ?_
    refine lv_iconst (v := 2) hx hb dX0_isLaw_59 (by decide) ?_
    refine x_iald hC hP (xrow xo_14 c_8) (i := (2 : Int32)) (by decide) dX0_isLaw_60 ?_
    refine lv_icmp_eq (tgt := 66) hx hb dX0_isLaw_61 (by decide) (fun c_10 => ?_) (fun c_10 => ?_)
    · have hE := ip c_10 hE
      refine lv_iinc (v := (a.1 + (1 : Int32))) (lv' := [(2, .int (a.1 + (1 : Int32))), (0, .ref (E.2.2.1 0)), (1, .ref v1)]) hx hb dX0_isLaw_66 hl (k := 2) rfl rfl (Nat.le_of_ble_eq_true rfl) rfl (fun ls hl => ?_)
      refine lv_goto (tgt := 2) hx hb dX0_isLaw_69 (by decide) ?_
      exact hc _ (Option.some.inj hE).symm H locs cells slots ls hP hS hB (lv_sub hl [1, 2, 0] rfl)
    · have hE := iq c_10 hE
      exact hx2 _ (Option.some.inj hE).symm H locs cells slots ls hP hS hB (lv_sub hl [] rfl)
noncomputable def fX0_isLaw (k : Nat) (V : XV) (z : XS) (x1 : Nat) : Option (Int32 × XS) := (lpo (fX0_isLaw_B2 k V x1) k ((0 : Int32), z)).bind fun x_11 => (Sum.elim (fun t_11 : XS => some ((1 : Int32), t_11)) (fun t_11 : XS => some ((0 : Int32), t_11))) x_11
set_option maxHeartbeats 1000000 in
theorem wX0_isLaw {l : Launch} {E : XE} (k : Nat) (z : XS) (x1 : Nat) (y : Int32 × XS) (hE : fX0_isLaw k E.2.2.2.2.2 z x1 = some y) : xM l yX0_isLaw (ws_ yX0_isLaw cX0_isLaw 3 (some .boolean)) rmX0_isLaw E z [.ref (E.2.2.1 0), .ref x1] (some (.int y.1)) y.2 := by
  refine x_met (own := RX0) (by decide) rfl (Nat.le_of_ble_eq_true rfl) (fun p e s m args below meth c hC => ?_)
  intro H locs cells slots ls hP hS hB hl
  have hx := hC.1
  have hb := hC.2.1
  have hown := hC.2.2.2.2.2.1
  have hts := hC.2.2.2.2.2.2.1
  have hl : lv_has ls 3 [(0, .ref (E.2.2.1 0)), (1, .ref x1)] := hl
  unfold fX0_isLaw at hE
  refine lv_iconst (v := 0) hx hb dX0_isLaw_0 (by decide) ?_
  refine lv_istore_n (lv' := [(2, .int (0 : Int32)), (0, .ref (E.2.2.1 0)), (1, .ref x1)]) hx hb dX0_isLaw_1 rfl hl (Nat.le_of_ble_eq_true rfl) rfl (fun ls hl => ?_)
  obtain ⟨x_11, h_11, hE⟩ := ob hE
  refine lpo_walk (fun p_11 : Int32 × XS => xW p l e rmX0_isLaw s m args below meth c E 3 (xQ E rmX0_isLaw below args s (some (.int y.1)) y.2) 0 0 2 [(0, .ref (E.2.2.1 0)), (1, .ref x1), (2, .int p_11.1)] [] p_11.2) (fun q_11 : (XS ⊕ XS) => (∀ t_11 : XS, q_11 = (.inl t_11) → xW p l e rmX0_isLaw s m args below meth c E 3 (xQ E rmX0_isLaw below args s (some (.int y.1)) y.2) 0 0 72 [] [] t_11) ∧ (∀ t_11 : XS, q_11 = (.inr t_11) → xW p l e rmX0_isLaw s m args below meth c E 3 (xQ E rmX0_isLaw below args s (some (.int y.1)) y.2) 0 0 64 [] [] t_11)) (fun a_11 y_11 hB_11 hc_11 hx_11 => wX0_isLaw_B2 k x1 hC a_11 y_11 hB_11 hc_11 (fun t_11 e_11 => (hx_11 _ e_11).1 t_11 rfl) (fun t_11 e_11 => (hx_11 _ e_11).2 t_11 rfl)) _ _ x_11 h_11 ?_ H locs cells slots ls hP hS hB (lv_sub hl [1, 2, 0] rfl)
  refine ⟨?_, ?_⟩
  · intro t_11 e_11
    subst e_11
    have hE := oel hE
    intro H locs cells slots ls hP hS hB hl
    refine lv_iconst (v := 1) hx hb dX0_isLaw_72 (by decide) ?_
    obtain rfl := Option.some.inj hE
    exact x_zret (v := (1 : Int32)) hC hP hS hB (by decide) dX0_isLaw_73
  · intro t_11 e_11
    subst e_11
    have hE := oer hE
    intro H locs cells slots ls hP hS hB hl
    refine lv_iconst (v := 0) hx hb dX0_isLaw_64 (by decide) ?_
    obtain rfl := Option.some.inj hE
    exact x_zret (v := (0 : Int32)) hC hP hS hB (by decide) dX0_isLaw_65
noncomputable def fX0_whose_B4 (k : Nat) (V : XV)  (a : Int32 × Int32 × XS) : Option ((Int32 × Int32 × XS) ⊕ (Int32 × XS)) := if (a.2.2.2.1 8 (1 : Int32).toNatClampNeg) ≤ a.2.1 then (some (.inr (a.1, a.2.2))) else (if ib a.2.1 4 then none else ((a.2.2.2.2 16 a.2.1.toNatClampNeg).bind fun r_3 => (fX0_isLaw k V a.2.2 r_3).bind fun r_4 => if r_4.1 = 0 then (some (.inl ((a.1 ||| (0 : Int32)), (a.2.1 + (1 : Int32)), r_4.2))) else (some (.inl ((a.1 ||| ((1 : Int32) <<< (a.2.1 &&& 31))), (a.2.1 + (1 : Int32)), r_4.2)))))
set_option maxHeartbeats 1000000 in
theorem wX0_whose_B4 {p : Program} {l : Launch} {e : Env} {s : State} {m : MethodId} {args : Array Value} {below : List Frame} {meth : Method} {c : Code} {E : XE} {Q : State → Prop} (k : Nat)  (hC : xC E RX0 cX0_whose 3 (some .int) p s m args meth c) (a : Int32 × Int32 × XS) (y : (Int32 × Int32 × XS) ⊕ (Int32 × XS)) (hE : fX0_whose_B4 k E.2.2.2.2.2  a = some y) (hc : ∀ a : Int32 × Int32 × XS, y = .inl a → xW p l e rmX0_whose s m args below meth c E 3 Q 0 0 4 [(0, .ref (E.2.2.1 0)), (1, .int a.1), (2, .int a.2.1)] [] a.2.2) (hx1 : ∀ b : Int32 × XS, y = .inr b → xW p l e rmX0_whose s m args below meth c E 3 Q 0 0 49 [(1, .int b.1)] [] b.2) : xW p l e rmX0_whose s m args below meth c E 3 Q 0 0 4 [(0, .ref (E.2.2.1 0)), (1, .int a.1), (2, .int a.2.1)] [] a.2.2 := by
  intro H locs cells slots ls hP hS hB hl
  have hx := hC.1
  have hb := hC.2.1
  have hown := hC.2.2.2.2.2.1
  have hts := hC.2.2.2.2.2.2.1
  unfold fX0_whose_B4 at hE
  refine lv_iload_n hx hb dX0_whose_4 rfl (lv_at hl 2 rfl) ?_
  refine lv_aload_n hx hb dX0_whose_5 rfl (lv_at hl 0 rfl) ?_
  refine gX_21 hC hP dX0_whose_6 ?_
  refine gN_62_1 hC hP dX0_whose_9 ?_
  refine lv_iconst (v := 1) hx hb dX0_whose_12 (by decide) ?_
  refine x_iald hC hP (⟨by decide, rfl, rfl⟩ : xint 8 6) (i := (1 : Int32)) (by decide) dX0_whose_13 ?_
  refine lv_icmp_ge (tgt := 49) hx hb dX0_whose_14 (by decide) (fun c_2 => ?_) (fun c_2 => ?_)
  · have hE := ip c_2 hE
    exact hx1 _ (Option.some.inj hE).symm H locs cells slots ls hP hS hB (lv_sub hl [1] rfl)
  · have hE := iq c_2 hE
    refine lv_iload_n hx hb dX0_whose_17 rfl (lv_at hl 1 rfl) ?_
    refine lv_aload_n hx hb dX0_whose_18 rfl (lv_at hl 0 rfl) ?_
    refine lv_aload_n hx hb dX0_whose_19 rfl (lv_at hl 0 rfl) ?_
    refine gX_21 hC hP dX0_whose_20 ?_
    refine gN_89_1 hC hP dX0_whose_23 ?_
    refine lv_iload_n hx hb dX0_whose_26 rfl (lv_at hl 2 rfl) ?_
    obtain ⟨c_3, hE⟩ := og hE
    obtain ⟨r_3, h_3, hE⟩ := ob hE
    refine x_tald hC hP (k := 16) ⟨by decide, rfl⟩ c_3 h_3 dX0_whose_27 ?_
    obtain ⟨r_4, h_4, hE⟩ := ob hE
    refine x_callV (rc1 := _) (rs1 := _) [.ref r_3] (E.2.2.1 0) hC hP hS hB hl.1 (wX0_isLaw k a.2.2 r_3 r_4 h_4) (xC.c0 hC) (xw_get E _ (k := 0) (by decide)) (cwV 1 hts lkX0_367 rfl rfl rfl cdX0_isLaw ⟨Nat.le_of_ble_eq_true rfl, Nat.le_of_ble_eq_true rfl⟩) rfl rfl (lv_room (Nat.le_of_ble_eq_true rfl)) ⟨Nat.le_of_eq (Nat.zero_add _), Nat.le_of_eq (Nat.zero_add _)⟩ dX0_whose_28 (fun H locs cells slots hP hS hB => ?_)
    show W p l e _ s m args below meth c H locs cells slots _ (F0 m _ ls (.int r_4.1 :: .int a.1 :: []))
    refine lv_if_eq (tgt := 40) hx hb dX0_whose_31 (by decide) (fun c_5 => ?_) (fun c_5 => ?_)
    · have hE := ip c_5 hE
      refine lv_iconst (v := 0) hx hb dX0_whose_40 (by decide) ?_
      refine lv_ior hx hb dX0_whose_41 ?_
      refine lv_istore_n (lv' := [(1, .int (a.1 ||| (0 : Int32))), (0, .ref (E.2.2.1 0)), (2, .int a.2.1)]) hx hb dX0_whose_42 rfl hl (Nat.le_of_ble_eq_true rfl) rfl (fun ls hl => ?_)
      refine lv_iinc (v := (a.2.1 + (1 : Int32))) (lv' := [(2, .int (a.2.1 + (1 : Int32))), (1, .int (a.1 ||| (0 : Int32))), (0, .ref (E.2.2.1 0))]) hx hb dX0_whose_43 hl (k := 2) rfl rfl (Nat.le_of_ble_eq_true rfl) rfl (fun ls hl => ?_)
      refine lv_goto (tgt := 4) hx hb dX0_whose_46 (by decide) ?_
      exact hc _ (Option.some.inj hE).symm H locs cells slots ls hP hS hB (lv_sub hl [2, 1, 0] rfl)
    · have hE := iq c_5 hE
      refine lv_iconst (v := 1) hx hb dX0_whose_34 (by decide) ?_
      refine lv_iload_n hx hb dX0_whose_35 rfl (lv_at hl 2 rfl) ?_
      refine lv_ishl hx hb dX0_whose_36 ?_
      refine lv_goto (tgt := 41) hx hb dX0_whose_37 (by decide) ?_
      refine lv_ior hx hb dX0_whose_41 ?_
      refine lv_istore_n (lv' := [(1, .int (a.1 ||| ((1 : Int32) <<< (a.2.1 &&& 31)))), (0, .ref (E.2.2.1 0)), (2, .int a.2.1)]) hx hb dX0_whose_42 rfl hl (Nat.le_of_ble_eq_true rfl) rfl (fun ls hl => ?_)
      refine lv_iinc (v := (a.2.1 + (1 : Int32))) (lv' := [(2, .int (a.2.1 + (1 : Int32))), (1, .int (a.1 ||| ((1 : Int32) <<< (a.2.1 &&& 31)))), (0, .ref (E.2.2.1 0))]) hx hb dX0_whose_43 hl (k := 2) rfl rfl (Nat.le_of_ble_eq_true rfl) rfl (fun ls hl => ?_)
      refine lv_goto (tgt := 4) hx hb dX0_whose_46 (by decide) ?_
      exact hc _ (Option.some.inj hE).symm H locs cells slots ls hP hS hB (lv_sub hl [2, 1, 0] rfl)
noncomputable def fX0_whose (k : Nat) (V : XV) (z : XS)  : Option (Int32 × XS) := (lpo (fX0_whose_B4 k V ) k ((0 : Int32), (0 : Int32), z)).bind fun x_6 => some (x_6.1, x_6.2)
set_option maxHeartbeats 1000000 in
theorem wX0_whose {l : Launch} {E : XE} (k : Nat) (z : XS)  (y : Int32 × XS) (hE : fX0_whose k E.2.2.2.2.2 z  = some y) : xM l yX0_whose (ws_ yX0_whose cX0_whose 3 (some .int)) rmX0_whose E z [.ref (E.2.2.1 0)] (some (.int y.1)) y.2 := by
  refine x_met (own := RX0) (by decide) rfl (Nat.le_of_ble_eq_true rfl) (fun p e s m args below meth c hC => ?_)
  intro H locs cells slots ls hP hS hB hl
  have hx := hC.1
  have hb := hC.2.1
  have hown := hC.2.2.2.2.2.1
  have hts := hC.2.2.2.2.2.2.1
  have hl : lv_has ls 3 [(0, .ref (E.2.2.1 0))] := hl
  unfold fX0_whose at hE
  refine lv_iconst (v := 0) hx hb dX0_whose_0 (by decide) ?_
  refine lv_istore_n (lv' := [(1, .int (0 : Int32)), (0, .ref (E.2.2.1 0))]) hx hb dX0_whose_1 rfl hl (Nat.le_of_ble_eq_true rfl) rfl (fun ls hl => ?_)
  refine lv_iconst (v := 0) hx hb dX0_whose_2 (by decide) ?_
  refine lv_istore_n (lv' := [(2, .int (0 : Int32)), (1, .int (0 : Int32)), (0, .ref (E.2.2.1 0))]) hx hb dX0_whose_3 rfl hl (Nat.le_of_ble_eq_true rfl) rfl (fun ls hl => ?_)
  obtain ⟨x_6, h_6, hE⟩ := ob hE
  refine lpo_walk (fun p_6 : Int32 × Int32 × XS => xW p l e rmX0_whose s m args below meth c E 3 (xQ E rmX0_whose below args s (some (.int y.1)) y.2) 0 0 4 [(0, .ref (E.2.2.1 0)), (1, .int p_6.1), (2, .int p_6.2.1)] [] p_6.2.2) (fun q_6 : Int32 × XS => xW p l e rmX0_whose s m args below meth c E 3 (xQ E rmX0_whose below args s (some (.int y.1)) y.2) 0 0 49 [(1, .int q_6.1)] [] q_6.2) (fun a_6 y_6 hB_6 hc_6 hx_6 => wX0_whose_B4 k  hC a_6 y_6 hB_6 hc_6 hx_6) _ _ x_6 h_6 ?_ H locs cells slots ls hP hS hB (lv_sub hl [2, 1, 0] rfl)
  intro H locs cells slots ls hP hS hB hl
  refine lv_iload_n hx hb dX0_whose_49 rfl (lv_at hl 0 rfl) ?_
  obtain rfl := Option.some.inj hE
  exact x_iret hC hP hS hB dX0_whose_50
noncomputable def fX0_greatest_J50 (k : Nat) (w : XS) (x1 : Int32) (x2 : Int32) (t0 : Int32) (t1 : Int32) : Option ((Int32 × Int32) ⊕ Int32) := if t1 ≤ t0 then (some (.inl (x1, (x2 + (1 : Int32))))) else (some (.inl (x2, (x2 + (1 : Int32)))))
set_option maxHeartbeats 1000000 in
theorem wX0_greatest_J50 {p : Program} {l : Launch} {e : Env} {s : State} {m : MethodId} {args : Array Value} {below : List Frame} {meth : Method} {c : Code} {E : XE} {Q : State → Prop} (k : Nat) (w : XS) (x1 : Int32) (x2 : Int32) (t0 : Int32) (t1 : Int32) (hC : xC E RX0 cX0_greatest 3 (some .int) p s m args meth c) (y : (Int32 × Int32) ⊕ Int32) (hE : fX0_greatest_J50 k w x1 x2 t0 t1 = some y) (hc : ∀ a : Int32 × Int32, y = .inl a → xW p l e rmX0_greatest s m args below meth c E 3 Q 0 0 4 [(0, .ref (E.2.2.1 0)), (1, .int a.1), (2, .int a.2)] [] w) (hx1 : ∀ b : Int32, y = .inr b → xW p l e rmX0_greatest s m args below meth c E 3 Q 0 0 61 [(1, .int b)] [] w) : xW p l e rmX0_greatest s m args below meth c E 3 Q 0 0 50 [(0, .ref (E.2.2.1 0)), (1, .int x1), (2, .int x2)] [.int t0, .int t1] w := by
  intro H locs cells slots ls hP hS hB hl
  have hx := hC.1
  have hb := hC.2.1
  have hown := hC.2.2.2.2.2.1
  have hts := hC.2.2.2.2.2.2.1
  unfold fX0_greatest_J50 at hE
  refine lv_icmp_le (tgt := 55) hx hb dX0_greatest_50 (by decide) (fun c_6 => ?_) (fun c_6 => ?_)
  · have hE := ip c_6 hE
    refine lv_iinc (v := (x2 + (1 : Int32))) (lv' := [(2, .int (x2 + (1 : Int32))), (0, .ref (E.2.2.1 0)), (1, .int x1)]) hx hb dX0_greatest_55 hl (k := 2) rfl rfl (Nat.le_of_ble_eq_true rfl) rfl (fun ls hl => ?_)
    refine lv_goto (tgt := 4) hx hb dX0_greatest_58 (by decide) ?_
    exact hc _ (Option.some.inj hE).symm H locs cells slots ls hP hS hB (lv_sub hl [1, 2, 0] rfl)
  · have hE := iq c_6 hE
    refine lv_iload_n hx hb dX0_greatest_53 rfl (lv_at hl 2 rfl) ?_
    refine lv_istore_n (lv' := [(1, .int x2), (0, .ref (E.2.2.1 0)), (2, .int x2)]) hx hb dX0_greatest_54 rfl hl (Nat.le_of_ble_eq_true rfl) rfl (fun ls hl => ?_)
    refine lv_iinc (v := (x2 + (1 : Int32))) (lv' := [(2, .int (x2 + (1 : Int32))), (1, .int x2), (0, .ref (E.2.2.1 0))]) hx hb dX0_greatest_55 hl (k := 2) rfl rfl (Nat.le_of_ble_eq_true rfl) rfl (fun ls hl => ?_)
    refine lv_goto (tgt := 4) hx hb dX0_greatest_58 (by decide) ?_
    exact hc _ (Option.some.inj hE).symm H locs cells slots ls hP hS hB (lv_sub hl [2, 1, 0] rfl)
noncomputable def fX0_greatest_B4 (k : Nat)  (w : XS) (a : Int32 × Int32) : Option ((Int32 × Int32) ⊕ Int32) := if (w.2.1 8 (0 : Int32).toNatClampNeg) ≤ a.2 then (some (.inr a.1)) else (if ib ((62 : Int32) + a.2) 190 then none else (if a.1 = (-1 : Int32) then ((fX0_greatest_J50 k w a.1 a.2 (-1 : Int32) (w.2.1 9 ((62 : Int32) + a.2).toNatClampNeg))) else (if ib ((62 : Int32) + a.1) 190 then none else ((fX0_greatest_J50 k w a.1 a.2 (w.2.1 9 ((62 : Int32) + a.1).toNatClampNeg) (w.2.1 9 ((62 : Int32) + a.2).toNatClampNeg))))))
set_option maxHeartbeats 1000000 in
theorem wX0_greatest_B4 {p : Program} {l : Launch} {e : Env} {s : State} {m : MethodId} {args : Array Value} {below : List Frame} {meth : Method} {c : Code} {E : XE} {Q : State → Prop} (k : Nat)  (w : XS) (hC : xC E RX0 cX0_greatest 3 (some .int) p s m args meth c) (a : Int32 × Int32) (y : (Int32 × Int32) ⊕ Int32) (hE : fX0_greatest_B4 k  w a = some y) (hc : ∀ a : Int32 × Int32, y = .inl a → xW p l e rmX0_greatest s m args below meth c E 3 Q 0 0 4 [(0, .ref (E.2.2.1 0)), (1, .int a.1), (2, .int a.2)] [] w) (hx1 : ∀ b : Int32, y = .inr b → xW p l e rmX0_greatest s m args below meth c E 3 Q 0 0 61 [(1, .int b)] [] w) : xW p l e rmX0_greatest s m args below meth c E 3 Q 0 0 4 [(0, .ref (E.2.2.1 0)), (1, .int a.1), (2, .int a.2)] [] w := by
  intro H locs cells slots ls hP hS hB hl
  have hx := hC.1
  have hb := hC.2.1
  have hown := hC.2.2.2.2.2.1
  have hts := hC.2.2.2.2.2.2.1
  unfold fX0_greatest_B4 at hE
  refine lv_iload_n hx hb dX0_greatest_4 rfl (lv_at hl 2 rfl) ?_
  refine lv_aload_n hx hb dX0_greatest_5 rfl (lv_at hl 0 rfl) ?_
  refine gX_21 hC hP dX0_greatest_6 ?_
  refine gN_62_1 hC hP dX0_greatest_9 ?_
  refine lv_iconst (v := 0) hx hb dX0_greatest_12 (by decide) ?_
  refine x_iald hC hP (⟨by decide, rfl, rfl⟩ : xint 8 6) (i := (0 : Int32)) (by decide) dX0_greatest_13 ?_
  refine lv_icmp_ge (tgt := 61) hx hb dX0_greatest_14 (by decide) (fun c_2 => ?_) (fun c_2 => ?_)
  · have hE := ip c_2 hE
    exact hx1 _ (Option.some.inj hE).symm H locs cells slots ls hP hS hB (lv_sub hl [1] rfl)
  · have hE := iq c_2 hE
    refine lv_aload_n hx hb dX0_greatest_17 rfl (lv_at hl 0 rfl) ?_
    refine gX_21 hC hP dX0_greatest_18 ?_
    refine gN_65_1 hC hP dX0_greatest_21 ?_
    refine lv_bipush (v := 62) hx hb dX0_greatest_24 (by decide) ?_
    refine lv_iload_n hx hb dX0_greatest_26 rfl (lv_at hl 2 rfl) ?_
    refine lv_iadd hx hb dX0_greatest_27 ?_
    obtain ⟨c_3, hE⟩ := og hE
    refine x_iald hC hP (⟨by decide, rfl, rfl⟩ : xint 9 190) c_3 dX0_greatest_28 ?_
    refine lv_iload_n hx hb dX0_greatest_29 rfl (lv_at hl 1 rfl) ?_
    refine lv_iconst (v := -1) hx hb dX0_greatest_30 (by decide) ?_
    refine lv_icmp_ne (tgt := 38) hx hb dX0_greatest_31 (by decide) (fun c_4 => ?_) (fun c_4 => ?_)
    · have hE := iq c_4 hE
      refine lv_aload_n hx hb dX0_greatest_38 rfl (lv_at hl 0 rfl) ?_
      refine gX_21 hC hP dX0_greatest_39 ?_
      refine gN_65_1 hC hP dX0_greatest_42 ?_
      refine lv_bipush (v := 62) hx hb dX0_greatest_45 (by decide) ?_
      refine lv_iload_n hx hb dX0_greatest_47 rfl (lv_at hl 1 rfl) ?_
      refine lv_iadd hx hb dX0_greatest_48 ?_
      obtain ⟨c_5, hE⟩ := og hE
      refine x_iald hC hP (⟨by decide, rfl, rfl⟩ : xint 9 190) c_5 dX0_greatest_49 ?_
      exact wX0_greatest_J50 k w a.1 a.2 (w.2.1 9 ((62 : Int32) + a.1).toNatClampNeg) (w.2.1 9 ((62 : Int32) + a.2).toNatClampNeg) hC y hE hc hx1 H locs cells slots ls hP hS hB hl
    · have hE := ip c_4 hE
      refine lv_iconst (v := -1) hx hb dX0_greatest_34 (by decide) ?_
      refine lv_goto (tgt := 50) hx hb dX0_greatest_35 (by decide) ?_
      exact wX0_greatest_J50 k w a.1 a.2 (-1 : Int32) (w.2.1 9 ((62 : Int32) + a.2).toNatClampNeg) hC y hE hc hx1 H locs cells slots ls hP hS hB hl
noncomputable def fX0_greatest (k : Nat) (z : XS)  : Option Int32 := (lpo (fX0_greatest_B4 k  z) k ((-1 : Int32), (0 : Int32))).bind fun x_7 => some x_7
set_option maxHeartbeats 1000000 in
theorem wX0_greatest {l : Launch} {E : XE} (k : Nat) (z : XS)  (y : Int32) (hE : fX0_greatest k z  = some y) : xM l yX0_greatest (ws_ yX0_greatest cX0_greatest 3 (some .int)) rmX0_greatest E z [.ref (E.2.2.1 0)] (some (.int y)) z := by
  refine x_met (own := RX0) (by decide) rfl (Nat.le_of_ble_eq_true rfl) (fun p e s m args below meth c hC => ?_)
  intro H locs cells slots ls hP hS hB hl
  have hx := hC.1
  have hb := hC.2.1
  have hown := hC.2.2.2.2.2.1
  have hts := hC.2.2.2.2.2.2.1
  have hl : lv_has ls 3 [(0, .ref (E.2.2.1 0))] := hl
  unfold fX0_greatest at hE
  refine lv_iconst (v := -1) hx hb dX0_greatest_0 (by decide) ?_
  refine lv_istore_n (lv' := [(1, .int (-1 : Int32)), (0, .ref (E.2.2.1 0))]) hx hb dX0_greatest_1 rfl hl (Nat.le_of_ble_eq_true rfl) rfl (fun ls hl => ?_)
  refine lv_iconst (v := 0) hx hb dX0_greatest_2 (by decide) ?_
  refine lv_istore_n (lv' := [(2, .int (0 : Int32)), (1, .int (-1 : Int32)), (0, .ref (E.2.2.1 0))]) hx hb dX0_greatest_3 rfl hl (Nat.le_of_ble_eq_true rfl) rfl (fun ls hl => ?_)
  obtain ⟨x_7, h_7, hE⟩ := ob hE
  refine lpo_walk (fun p_7 : Int32 × Int32 => xW p l e rmX0_greatest s m args below meth c E 3 (xQ E rmX0_greatest below args s (some (.int y)) z) 0 0 4 [(0, .ref (E.2.2.1 0)), (1, .int p_7.1), (2, .int p_7.2)] [] z) (fun q_7 : Int32 => xW p l e rmX0_greatest s m args below meth c E 3 (xQ E rmX0_greatest below args s (some (.int y)) z) 0 0 61 [(1, .int q_7)] [] z) (fun a_7 y_7 hB_7 hc_7 hx_7 => wX0_greatest_B4 k  z hC a_7 y_7 hB_7 hc_7 hx_7) _ _ x_7 h_7 ?_ H locs cells slots ls hP hS hB (lv_sub hl [2, 1, 0] rfl)
  intro H locs cells slots ls hP hS hB hl
  refine lv_iload_n hx hb dX0_greatest_61 rfl (lv_at hl 0 rfl) ?_
  obtain rfl := Option.some.inj hE
  exact x_iret hC hP hS hB dX0_greatest_62
noncomputable def fX0_twins_J64 (k : Nat) (w : XS) (v2 : Int32) (x3 : Int32) (t0 : Int32) : Option ((Int32 × Int32) ⊕ Int32) := some (.inl ((t0 + (0 : Int32)), (x3 + (1 : Int32))))
set_option maxHeartbeats 1000000 in
theorem wX0_twins_J64 {p : Program} {l : Launch} {e : Env} {s : State} {m : MethodId} {args : Array Value} {below : List Frame} {meth : Method} {c : Code} {E : XE} {Q : State → Prop} (k : Nat) (w : XS) (v2 : Int32) (x3 : Int32) (t0 : Int32) (hC : xC E RX0 cX0_twins 4 (some .int) p s m args meth c) (y : (Int32 × Int32) ⊕ Int32) (hE : fX0_twins_J64 k w v2 x3 t0 = some y) (hc : ∀ a : Int32 × Int32, y = .inl a → xW p l e rmX0_twins s m args below meth c E 4 Q 0 0 19 [(0, .ref (E.2.2.1 0)), (1, .int a.1), (2, .int v2), (3, .int a.2)] [] w) (hx1 : ∀ b : Int32, y = .inr b → xW p l e rmX0_twins s m args below meth c E 4 Q 0 0 73 [(0, .ref (E.2.2.1 0)), (1, .int b), (2, .int v2)] [] w) : xW p l e rmX0_twins s m args below meth c E 4 Q 0 0 64 [(0, .ref (E.2.2.1 0)), (2, .int v2), (3, .int x3)] [.int t0] w := by
  intro H locs cells slots ls hP hS hB hl
  have hx := hC.1
  have hb := hC.2.1
  have hown := hC.2.2.2.2.2.1
  have hts := hC.2.2.2.2.2.2.1
  unfold fX0_twins_J64 at hE
  refine lv_iconst (v := 0) hx hb dX0_twins_64 (by decide) ?_
  refine lv_iadd hx hb dX0_twins_65 ?_
  refine lv_istore_n (lv' := [(1, .int (t0 + (0 : Int32))), (0, .ref (E.2.2.1 0)), (2, .int v2), (3, .int x3)]) hx hb dX0_twins_66 rfl hl (Nat.le_of_ble_eq_true rfl) rfl (fun ls hl => ?_)
  refine lv_iinc (v := (x3 + (1 : Int32))) (lv' := [(3, .int (x3 + (1 : Int32))), (1, .int (t0 + (0 : Int32))), (0, .ref (E.2.2.1 0)), (2, .int v2)]) hx hb dX0_twins_67 hl (k := 3) rfl rfl (Nat.le_of_ble_eq_true rfl) rfl (fun ls hl => ?_)
  refine lv_goto (tgt := 19) hx hb dX0_twins_70 (by decide) ?_
  exact hc _ (Option.some.inj hE).symm H locs cells slots ls hP hS hB (lv_sub hl [2, 1, 3, 0] rfl)
noncomputable def fX0_twins_B19 (k : Nat) (v2 : Int32) (w : XS) (a : Int32 × Int32) : Option ((Int32 × Int32) ⊕ Int32) := if v2 ≤ a.2 then (some (.inr a.1)) else ((fX0_canRun w v2).bind fun r_4 => if r_4 = 0 then (if ib ((62 : Int32) + v2) 190 then none else (if ib ((62 : Int32) + a.2) 190 then none else (if (w.2.1 9 ((62 : Int32) + v2).toNatClampNeg) = (w.2.1 9 ((62 : Int32) + a.2).toNatClampNeg) then (some (.inl ((a.1 + (1 : Int32)), (a.2 + (1 : Int32))))) else ((fX0_twins_J64 k w v2 a.2 a.1))))) else ((fX0_twins_J64 k w v2 a.2 a.1)))
set_option maxHeartbeats 1000000 in
theorem wX0_twins_B19 {p : Program} {l : Launch} {e : Env} {s : State} {m : MethodId} {args : Array Value} {below : List Frame} {meth : Method} {c : Code} {E : XE} {Q : State → Prop} (k : Nat) (v2 : Int32) (w : XS) (hC : xC E RX0 cX0_twins 4 (some .int) p s m args meth c) (a : Int32 × Int32) (y : (Int32 × Int32) ⊕ Int32) (hE : fX0_twins_B19 k v2 w a = some y) (hc : ∀ a : Int32 × Int32, y = .inl a → xW p l e rmX0_twins s m args below meth c E 4 Q 0 0 19 [(0, .ref (E.2.2.1 0)), (1, .int a.1), (2, .int v2), (3, .int a.2)] [] w) (hx1 : ∀ b : Int32, y = .inr b → xW p l e rmX0_twins s m args below meth c E 4 Q 0 0 73 [(0, .ref (E.2.2.1 0)), (1, .int b), (2, .int v2)] [] w) : xW p l e rmX0_twins s m args below meth c E 4 Q 0 0 19 [(0, .ref (E.2.2.1 0)), (1, .int a.1), (2, .int v2), (3, .int a.2)] [] w := by
  intro H locs cells slots ls hP hS hB hl
  have hx := hC.1
  have hb := hC.2.1
  have hown := hC.2.2.2.2.2.1
  have hts := hC.2.2.2.2.2.2.1
  unfold fX0_twins_B19 at hE
  refine lv_iload_n hx hb dX0_twins_19 rfl (lv_at hl 3 rfl) ?_
  refine lv_iload_n hx hb dX0_twins_20 rfl (lv_at hl 2 rfl) ?_
  refine lv_icmp_ge (tgt := 73) hx hb dX0_twins_21 (by decide) (fun c_3 => ?_) (fun c_3 => ?_)
  · have hE := ip c_3 hE
    exact hx1 _ (Option.some.inj hE).symm H locs cells slots ls hP hS hB (lv_sub hl [0, 1, 2] rfl)
  · have hE := iq c_3 hE
    refine lv_iload_n hx hb dX0_twins_24 rfl (lv_at hl 1 rfl) ?_
    refine lv_aload_n hx hb dX0_twins_25 rfl (lv_at hl 0 rfl) ?_
    refine lv_iload_n hx hb dX0_twins_26 rfl (lv_at hl 2 rfl) ?_
    obtain ⟨r_4, h_4, hE⟩ := ob hE
    refine x_callV (rc1 := _) (rs1 := _) [.int v2] (E.2.2.1 0) hC hP hS hB hl.1 (wX0_canRun w v2 r_4 h_4) (xC.c0 hC) (xw_get E _ (k := 0) (by decide)) (cwV 1 hts lkX0_162 rfl rfl rfl cdX0_canRun ⟨Nat.le_of_ble_eq_true rfl, Nat.le_of_ble_eq_true rfl⟩) rfl rfl (lv_room (Nat.le_of_ble_eq_true rfl)) ⟨Nat.le_of_eq (Nat.zero_add _), Nat.le_of_eq (Nat.zero_add _)⟩ dX0_twins_27 (fun H locs cells slots hP hS hB => ?_)
    show W p l e _ s m args below meth c H locs cells slots _ (F0 m _ ls (.int r_4 :: .int a.1 :: []))
    refine lv_if_ne (tgt := 64) hx hb dX0_twins_30 (by decide) (fun c_5 => ?_) (fun c_5 => ?_)
    · have hE := iq c_5 hE
      exact wX0_twins_J64 k w v2 a.2 a.1 hC y hE hc hx1 H locs cells slots ls hP hS hB (lv_sub hl [0, 2, 3] rfl)
    · have hE := ip c_5 hE
      refine lv_aload_n hx hb dX0_twins_33 rfl (lv_at hl 0 rfl) ?_
      refine gX_21 hC hP dX0_twins_34 ?_
      refine gN_65_1 hC hP dX0_twins_37 ?_
      refine lv_bipush (v := 62) hx hb dX0_twins_40 (by decide) ?_
      refine lv_iload_n hx hb dX0_twins_42 rfl (lv_at hl 2 rfl) ?_
      refine lv_iadd hx hb dX0_twins_43 ?_
      obtain ⟨c_6, hE⟩ := og hE
      refine x_iald hC hP (⟨by decide, rfl, rfl⟩ : xint 9 190) c_6 dX0_twins_44 ?_
      refine lv_aload_n hx hb dX0_twins_45 rfl (lv_at hl 0 rfl) ?_
      refine gX_21 hC hP dX0_twins_46 ?_
      refine gN_65_1 hC hP dX0_twins_49 ?_
      refine lv_bipush (v := 62) hx hb dX0_twins_52 (by decide) ?_
      refine lv_iload_n hx hb dX0_twins_54 rfl (lv_at hl 3 rfl) ?_
      refine lv_iadd hx hb dX0_twins_55 ?_
      obtain ⟨c_7, hE⟩ := og hE
      refine x_iald hC hP (⟨by decide, rfl, rfl⟩ : xint 9 190) c_7 dX0_twins_56 ?_
      refine lv_icmp_ne (tgt := 64) hx hb dX0_twins_57 (by decide) (fun c_8 => ?_) (fun c_8 => ?_)
      · have hE := iq c_8 hE
        exact wX0_twins_J64 k w v2 a.2 a.1 hC y hE hc hx1 H locs cells slots ls hP hS hB (lv_sub hl [0, 2, 3] rfl)
      · have hE := ip c_8 hE
        refine lv_iconst (v := 1) hx hb dX0_twins_60 (by decide) ?_
        refine lv_goto (tgt := 65) hx hb dX0_twins_61 (by decide) ?_
        refine lv_iadd hx hb dX0_twins_65 ?_
        refine lv_istore_n (lv' := [(1, .int (a.1 + (1 : Int32))), (0, .ref (E.2.2.1 0)), (2, .int v2), (3, .int a.2)]) hx hb dX0_twins_66 rfl hl (Nat.le_of_ble_eq_true rfl) rfl (fun ls hl => ?_)
        refine lv_iinc (v := (a.2 + (1 : Int32))) (lv' := [(3, .int (a.2 + (1 : Int32))), (1, .int (a.1 + (1 : Int32))), (0, .ref (E.2.2.1 0)), (2, .int v2)]) hx hb dX0_twins_67 hl (k := 3) rfl rfl (Nat.le_of_ble_eq_true rfl) rfl (fun ls hl => ?_)
        refine lv_goto (tgt := 19) hx hb dX0_twins_70 (by decide) ?_
        exact hc _ (Option.some.inj hE).symm H locs cells slots ls hP hS hB (lv_sub hl [2, 1, 3, 0] rfl)
noncomputable def fX0_twins_B4 (k : Nat)  (w : XS) (a : Int32 × Int32) : Option ((Int32 × Int32) ⊕ Int32) := if (w.2.1 8 (0 : Int32).toNatClampNeg) ≤ a.2 then (some (.inr a.1)) else ((lpo (fX0_twins_B19 k a.2 w) k (a.1, (0 : Int32))).bind fun x_9 => some (.inl (x_9, (a.2 + (1 : Int32)))))
set_option maxHeartbeats 1000000 in
theorem wX0_twins_B4 {p : Program} {l : Launch} {e : Env} {s : State} {m : MethodId} {args : Array Value} {below : List Frame} {meth : Method} {c : Code} {E : XE} {Q : State → Prop} (k : Nat)  (w : XS) (hC : xC E RX0 cX0_twins 4 (some .int) p s m args meth c) (a : Int32 × Int32) (y : (Int32 × Int32) ⊕ Int32) (hE : fX0_twins_B4 k  w a = some y) (hc : ∀ a : Int32 × Int32, y = .inl a → xW p l e rmX0_twins s m args below meth c E 4 Q 0 0 4 [(0, .ref (E.2.2.1 0)), (1, .int a.1), (2, .int a.2)] [] w) (hx1 : ∀ b : Int32, y = .inr b → xW p l e rmX0_twins s m args below meth c E 4 Q 0 0 79 [(1, .int b)] [] w) : xW p l e rmX0_twins s m args below meth c E 4 Q 0 0 4 [(0, .ref (E.2.2.1 0)), (1, .int a.1), (2, .int a.2)] [] w := by
  intro H locs cells slots ls hP hS hB hl
  have hx := hC.1
  have hb := hC.2.1
  have hown := hC.2.2.2.2.2.1
  have hts := hC.2.2.2.2.2.2.1
  unfold fX0_twins_B4 at hE
  refine lv_iload_n hx hb dX0_twins_4 rfl (lv_at hl 2 rfl) ?_
  refine lv_aload_n hx hb dX0_twins_5 rfl (lv_at hl 0 rfl) ?_
  refine gX_21 hC hP dX0_twins_6 ?_
  refine gN_62_1 hC hP dX0_twins_9 ?_
  refine lv_iconst (v := 0) hx hb dX0_twins_12 (by decide) ?_
  refine x_iald hC hP (⟨by decide, rfl, rfl⟩ : xint 8 6) (i := (0 : Int32)) (by decide) dX0_twins_13 ?_
  refine lv_icmp_ge (tgt := 79) hx hb dX0_twins_14 (by decide) (fun c_2 => ?_) (fun c_2 => ?_)
  · have hE := ip c_2 hE
    exact hx1 _ (Option.some.inj hE).symm H locs cells slots ls hP hS hB (lv_sub hl [1] rfl)
  · have hE := iq c_2 hE
    refine lv_iconst (v := 0) hx hb dX0_twins_17 (by decide) ?_
    refine lv_istore_n (lv' := [(3, .int (0 : Int32)), (0, .ref (E.2.2.1 0)), (1, .int a.1), (2, .int a.2)]) hx hb dX0_twins_18 rfl hl (Nat.le_of_ble_eq_true rfl) rfl (fun ls hl => ?_)
    obtain ⟨x_9, h_9, hE⟩ := ob hE
    refine lpo_walk (fun p_9 : Int32 × Int32 => xW p l e rmX0_twins s m args below meth c E 4 Q 0 0 19 [(0, .ref (E.2.2.1 0)), (1, .int p_9.1), (2, .int a.2), (3, .int p_9.2)] [] w) (fun q_9 : Int32 => xW p l e rmX0_twins s m args below meth c E 4 Q 0 0 73 [(0, .ref (E.2.2.1 0)), (1, .int q_9), (2, .int a.2)] [] w) (fun a_9 y_9 hB_9 hc_9 hx_9 => wX0_twins_B19 k a.2 w hC a_9 y_9 hB_9 hc_9 hx_9) _ _ x_9 h_9 ?_ H locs cells slots ls hP hS hB (lv_sub hl [1, 2, 3, 0] rfl)
    intro H locs cells slots ls hP hS hB hl
    refine lv_iinc (v := (a.2 + (1 : Int32))) (lv' := [(2, .int (a.2 + (1 : Int32))), (0, .ref (E.2.2.1 0)), (1, .int x_9)]) hx hb dX0_twins_73 hl (k := 2) rfl rfl (Nat.le_of_ble_eq_true rfl) rfl (fun ls hl => ?_)
    refine lv_goto (tgt := 4) hx hb dX0_twins_76 (by decide) ?_
    exact hc _ (Option.some.inj hE).symm H locs cells slots ls hP hS hB (lv_sub hl [1, 2, 0] rfl)
noncomputable def fX0_twins (k : Nat) (z : XS)  : Option Int32 := (lpo (fX0_twins_B4 k  z) k ((0 : Int32), (0 : Int32))).bind fun x_10 => some x_10
set_option maxHeartbeats 1000000 in
theorem wX0_twins {l : Launch} {E : XE} (k : Nat) (z : XS)  (y : Int32) (hE : fX0_twins k z  = some y) : xM l yX0_twins (ws_ yX0_twins cX0_twins 4 (some .int)) rmX0_twins E z [.ref (E.2.2.1 0)] (some (.int y)) z := by
  refine x_met (own := RX0) (by decide) rfl (Nat.le_of_ble_eq_true rfl) (fun p e s m args below meth c hC => ?_)
  intro H locs cells slots ls hP hS hB hl
  have hx := hC.1
  have hb := hC.2.1
  have hown := hC.2.2.2.2.2.1
  have hts := hC.2.2.2.2.2.2.1
  have hl : lv_has ls 4 [(0, .ref (E.2.2.1 0))] := hl
  unfold fX0_twins at hE
  refine lv_iconst (v := 0) hx hb dX0_twins_0 (by decide) ?_
  refine lv_istore_n (lv' := [(1, .int (0 : Int32)), (0, .ref (E.2.2.1 0))]) hx hb dX0_twins_1 rfl hl (Nat.le_of_ble_eq_true rfl) rfl (fun ls hl => ?_)
  refine lv_iconst (v := 0) hx hb dX0_twins_2 (by decide) ?_
  refine lv_istore_n (lv' := [(2, .int (0 : Int32)), (1, .int (0 : Int32)), (0, .ref (E.2.2.1 0))]) hx hb dX0_twins_3 rfl hl (Nat.le_of_ble_eq_true rfl) rfl (fun ls hl => ?_)
  obtain ⟨x_10, h_10, hE⟩ := ob hE
  refine lpo_walk (fun p_10 : Int32 × Int32 => xW p l e rmX0_twins s m args below meth c E 4 (xQ E rmX0_twins below args s (some (.int y)) z) 0 0 4 [(0, .ref (E.2.2.1 0)), (1, .int p_10.1), (2, .int p_10.2)] [] z) (fun q_10 : Int32 => xW p l e rmX0_twins s m args below meth c E 4 (xQ E rmX0_twins below args s (some (.int y)) z) 0 0 79 [(1, .int q_10)] [] z) (fun a_10 y_10 hB_10 hc_10 hx_10 => wX0_twins_B4 k  z hC a_10 y_10 hB_10 hc_10 hx_10) _ _ x_10 h_10 ?_ H locs cells slots ls hP hS hB (lv_sub hl [2, 1, 0] rfl)
  intro H locs cells slots ls hP hS hB hl
  refine lv_iload_n hx hb dX0_twins_79 rfl (lv_at hl 0 rfl) ?_
  obtain rfl := Option.some.inj hE
  exact x_iret hC hP hS hB dX0_twins_80
noncomputable def fX0_odd_J50 (k : Nat) (w : XS) (x2 : Int32) (t0 : Int32) : Option ((Int32 × Int32) ⊕ Int32) := some (.inl ((t0 ||| (0 : Int32)), (x2 + (1 : Int32))))
set_option maxHeartbeats 1000000 in
theorem wX0_odd_J50 {p : Program} {l : Launch} {e : Env} {s : State} {m : MethodId} {args : Array Value} {below : List Frame} {meth : Method} {c : Code} {E : XE} {Q : State → Prop} (k : Nat) (w : XS) (x2 : Int32) (t0 : Int32) (hC : xC E RX0 cX0_odd 3 (some .int) p s m args meth c) (y : (Int32 × Int32) ⊕ Int32) (hE : fX0_odd_J50 k w x2 t0 = some y) (hc : ∀ a : Int32 × Int32, y = .inl a → xW p l e rmX0_odd s m args below meth c E 3 Q 0 0 4 [(0, .ref (E.2.2.1 0)), (1, .int a.1), (2, .int a.2)] [] w) (hx1 : ∀ b : Int32, y = .inr b → xW p l e rmX0_odd s m args below meth c E 3 Q 0 0 59 [(1, .int b)] [] w) : xW p l e rmX0_odd s m args below meth c E 3 Q 0 0 50 [(0, .ref (E.2.2.1 0)), (2, .int x2)] [.int t0] w := by
  intro H locs cells slots ls hP hS hB hl
  have hx := hC.1
  have hb := hC.2.1
  have hown := hC.2.2.2.2.2.1
  have hts := hC.2.2.2.2.2.2.1
  unfold fX0_odd_J50 at hE
  refine lv_iconst (v := 0) hx hb dX0_odd_50 (by decide) ?_
  refine lv_ior hx hb dX0_odd_51 ?_
  refine lv_istore_n (lv' := [(1, .int (t0 ||| (0 : Int32))), (0, .ref (E.2.2.1 0)), (2, .int x2)]) hx hb dX0_odd_52 rfl hl (Nat.le_of_ble_eq_true rfl) rfl (fun ls hl => ?_)
  refine lv_iinc (v := (x2 + (1 : Int32))) (lv' := [(2, .int (x2 + (1 : Int32))), (1, .int (t0 ||| (0 : Int32))), (0, .ref (E.2.2.1 0))]) hx hb dX0_odd_53 hl (k := 2) rfl rfl (Nat.le_of_ble_eq_true rfl) rfl (fun ls hl => ?_)
  refine lv_goto (tgt := 4) hx hb dX0_odd_56 (by decide) ?_
  exact hc _ (Option.some.inj hE).symm H locs cells slots ls hP hS hB (lv_sub hl [2, 1, 0] rfl)
noncomputable def fX0_odd_B4 (k : Nat)  (w : XS) (a : Int32 × Int32) : Option ((Int32 × Int32) ⊕ Int32) := if (w.2.1 8 (0 : Int32).toNatClampNeg) ≤ a.2 then (some (.inr a.1)) else ((fX0_canRun w a.2).bind fun r_3 => if r_3 = 0 then (if ib ((62 : Int32) + a.2) 190 then none else (if ((w.2.1 9 ((62 : Int32) + a.2).toNatClampNeg) - (w.2.1 9 ((62 : Int32) + a.2).toNatClampNeg) / (2 : Int32) * (2 : Int32)) = (1 : Int32) then (some (.inl ((a.1 ||| ((1 : Int32) <<< (a.2 &&& 31))), (a.2 + (1 : Int32))))) else ((fX0_odd_J50 k w a.2 a.1)))) else ((fX0_odd_J50 k w a.2 a.1)))
set_option maxHeartbeats 1000000 in
theorem wX0_odd_B4 {p : Program} {l : Launch} {e : Env} {s : State} {m : MethodId} {args : Array Value} {below : List Frame} {meth : Method} {c : Code} {E : XE} {Q : State → Prop} (k : Nat)  (w : XS) (hC : xC E RX0 cX0_odd 3 (some .int) p s m args meth c) (a : Int32 × Int32) (y : (Int32 × Int32) ⊕ Int32) (hE : fX0_odd_B4 k  w a = some y) (hc : ∀ a : Int32 × Int32, y = .inl a → xW p l e rmX0_odd s m args below meth c E 3 Q 0 0 4 [(0, .ref (E.2.2.1 0)), (1, .int a.1), (2, .int a.2)] [] w) (hx1 : ∀ b : Int32, y = .inr b → xW p l e rmX0_odd s m args below meth c E 3 Q 0 0 59 [(1, .int b)] [] w) : xW p l e rmX0_odd s m args below meth c E 3 Q 0 0 4 [(0, .ref (E.2.2.1 0)), (1, .int a.1), (2, .int a.2)] [] w := by
  intro H locs cells slots ls hP hS hB hl
  have hx := hC.1
  have hb := hC.2.1
  have hown := hC.2.2.2.2.2.1
  have hts := hC.2.2.2.2.2.2.1
  unfold fX0_odd_B4 at hE
  refine lv_iload_n hx hb dX0_odd_4 rfl (lv_at hl 2 rfl) ?_
  refine lv_aload_n hx hb dX0_odd_5 rfl (lv_at hl 0 rfl) ?_
  refine gX_21 hC hP dX0_odd_6 ?_
  refine gN_62_1 hC hP dX0_odd_9 ?_
  refine lv_iconst (v := 0) hx hb dX0_odd_12 (by decide) ?_
  refine x_iald hC hP (⟨by decide, rfl, rfl⟩ : xint 8 6) (i := (0 : Int32)) (by decide) dX0_odd_13 ?_
  refine lv_icmp_ge (tgt := 59) hx hb dX0_odd_14 (by decide) (fun c_2 => ?_) (fun c_2 => ?_)
  · have hE := ip c_2 hE
    exact hx1 _ (Option.some.inj hE).symm H locs cells slots ls hP hS hB (lv_sub hl [1] rfl)
  · have hE := iq c_2 hE
    refine lv_iload_n hx hb dX0_odd_17 rfl (lv_at hl 1 rfl) ?_
    refine lv_aload_n hx hb dX0_odd_18 rfl (lv_at hl 0 rfl) ?_
    refine lv_iload_n hx hb dX0_odd_19 rfl (lv_at hl 2 rfl) ?_
    obtain ⟨r_3, h_3, hE⟩ := ob hE
    refine x_callV (rc1 := _) (rs1 := _) [.int a.2] (E.2.2.1 0) hC hP hS hB hl.1 (wX0_canRun w a.2 r_3 h_3) (xC.c0 hC) (xw_get E _ (k := 0) (by decide)) (cwV 1 hts lkX0_162 rfl rfl rfl cdX0_canRun ⟨Nat.le_of_ble_eq_true rfl, Nat.le_of_ble_eq_true rfl⟩) rfl rfl (lv_room (Nat.le_of_ble_eq_true rfl)) ⟨Nat.le_of_eq (Nat.zero_add _), Nat.le_of_eq (Nat.zero_add _)⟩ dX0_odd_20 (fun H locs cells slots hP hS hB => ?_)
    show W p l e _ s m args below meth c H locs cells slots _ (F0 m _ ls (.int r_3 :: .int a.1 :: []))
    refine lv_if_ne (tgt := 50) hx hb dX0_odd_23 (by decide) (fun c_4 => ?_) (fun c_4 => ?_)
    · have hE := iq c_4 hE
      exact wX0_odd_J50 k w a.2 a.1 hC y hE hc hx1 H locs cells slots ls hP hS hB (lv_sub hl [0, 2] rfl)
    · have hE := ip c_4 hE
      refine lv_aload_n hx hb dX0_odd_26 rfl (lv_at hl 0 rfl) ?_
      refine gX_21 hC hP dX0_odd_27 ?_
      refine gN_65_1 hC hP dX0_odd_30 ?_
      refine lv_bipush (v := 62) hx hb dX0_odd_33 (by decide) ?_
      refine lv_iload_n hx hb dX0_odd_35 rfl (lv_at hl 2 rfl) ?_
      refine lv_iadd hx hb dX0_odd_36 ?_
      obtain ⟨c_5, hE⟩ := og hE
      refine x_iald hC hP (⟨by decide, rfl, rfl⟩ : xint 9 190) c_5 dX0_odd_37 ?_
      refine lv_iconst (v := 2) hx hb dX0_odd_38 (by decide) ?_
      refine lv_irem hx hb dX0_odd_39 (by decide) ?_
      refine lv_iconst (v := 1) hx hb dX0_odd_40 (by decide) ?_
      refine lv_icmp_ne (tgt := 50) hx hb dX0_odd_41 (by decide) (fun c_6 => ?_) (fun c_6 => ?_)
      · have hE := iq c_6 hE
        exact wX0_odd_J50 k w a.2 a.1 hC y hE hc hx1 H locs cells slots ls hP hS hB (lv_sub hl [0, 2] rfl)
      · have hE := ip c_6 hE
        refine lv_iconst (v := 1) hx hb dX0_odd_44 (by decide) ?_
        refine lv_iload_n hx hb dX0_odd_45 rfl (lv_at hl 2 rfl) ?_
        refine lv_ishl hx hb dX0_odd_46 ?_
        refine lv_goto (tgt := 51) hx hb dX0_odd_47 (by decide) ?_
        refine lv_ior hx hb dX0_odd_51 ?_
        refine lv_istore_n (lv' := [(1, .int (a.1 ||| ((1 : Int32) <<< (a.2 &&& 31)))), (0, .ref (E.2.2.1 0)), (2, .int a.2)]) hx hb dX0_odd_52 rfl hl (Nat.le_of_ble_eq_true rfl) rfl (fun ls hl => ?_)
        refine lv_iinc (v := (a.2 + (1 : Int32))) (lv' := [(2, .int (a.2 + (1 : Int32))), (1, .int (a.1 ||| ((1 : Int32) <<< (a.2 &&& 31)))), (0, .ref (E.2.2.1 0))]) hx hb dX0_odd_53 hl (k := 2) rfl rfl (Nat.le_of_ble_eq_true rfl) rfl (fun ls hl => ?_)
        refine lv_goto (tgt := 4) hx hb dX0_odd_56 (by decide) ?_
        exact hc _ (Option.some.inj hE).symm H locs cells slots ls hP hS hB (lv_sub hl [2, 1, 0] rfl)
noncomputable def fX0_odd (k : Nat) (z : XS)  : Option Int32 := (lpo (fX0_odd_B4 k  z) k ((0 : Int32), (0 : Int32))).bind fun x_7 => some x_7
set_option maxHeartbeats 1000000 in
theorem wX0_odd {l : Launch} {E : XE} (k : Nat) (z : XS)  (y : Int32) (hE : fX0_odd k z  = some y) : xM l yX0_odd (ws_ yX0_odd cX0_odd 3 (some .int)) rmX0_odd E z [.ref (E.2.2.1 0)] (some (.int y)) z := by
  refine x_met (own := RX0) (by decide) rfl (Nat.le_of_ble_eq_true rfl) (fun p e s m args below meth c hC => ?_)
  intro H locs cells slots ls hP hS hB hl
  have hx := hC.1
  have hb := hC.2.1
  have hown := hC.2.2.2.2.2.1
  have hts := hC.2.2.2.2.2.2.1
  have hl : lv_has ls 3 [(0, .ref (E.2.2.1 0))] := hl
  unfold fX0_odd at hE
  refine lv_iconst (v := 0) hx hb dX0_odd_0 (by decide) ?_
  refine lv_istore_n (lv' := [(1, .int (0 : Int32)), (0, .ref (E.2.2.1 0))]) hx hb dX0_odd_1 rfl hl (Nat.le_of_ble_eq_true rfl) rfl (fun ls hl => ?_)
  refine lv_iconst (v := 0) hx hb dX0_odd_2 (by decide) ?_
  refine lv_istore_n (lv' := [(2, .int (0 : Int32)), (1, .int (0 : Int32)), (0, .ref (E.2.2.1 0))]) hx hb dX0_odd_3 rfl hl (Nat.le_of_ble_eq_true rfl) rfl (fun ls hl => ?_)
  obtain ⟨x_7, h_7, hE⟩ := ob hE
  refine lpo_walk (fun p_7 : Int32 × Int32 => xW p l e rmX0_odd s m args below meth c E 3 (xQ E rmX0_odd below args s (some (.int y)) z) 0 0 4 [(0, .ref (E.2.2.1 0)), (1, .int p_7.1), (2, .int p_7.2)] [] z) (fun q_7 : Int32 => xW p l e rmX0_odd s m args below meth c E 3 (xQ E rmX0_odd below args s (some (.int y)) z) 0 0 59 [(1, .int q_7)] [] z) (fun a_7 y_7 hB_7 hc_7 hx_7 => wX0_odd_B4 k  z hC a_7 y_7 hB_7 hc_7 hx_7) _ _ x_7 h_7 ?_ H locs cells slots ls hP hS hB (lv_sub hl [2, 1, 0] rfl)
  intro H locs cells slots ls hP hS hB hl
  refine lv_iload_n hx hb dX0_odd_59 rfl (lv_at hl 0 rfl) ?_
  obtain rfl := Option.some.inj hE
  exact x_iret hC hP hS hB dX0_odd_60
noncomputable def fX0_thickest_B4 (k : Nat)  (w : XS) (a : Int32 × Int32) : Option ((Int32 × Int32) ⊕ Int32) := if (30 : Int32) ≤ a.2 then (some (.inr a.1)) else (if ib ((32 : Int32) + a.2) 190 then none else (if ib ((32 : Int32) + a.1) 190 then none else (if (w.2.1 9 ((32 : Int32) + a.2).toNatClampNeg) ≤ (w.2.1 9 ((32 : Int32) + a.1).toNatClampNeg) then (some (.inl (a.1, (a.2 + (1 : Int32))))) else (some (.inl (a.2, (a.2 + (1 : Int32))))))))
set_option maxHeartbeats 1000000 in
theorem wX0_thickest_B4 {p : Program} {l : Launch} {e : Env} {s : State} {m : MethodId} {args : Array Value} {below : List Frame} {meth : Method} {c : Code} {E : XE} {Q : State → Prop} (k : Nat)  (w : XS) (hC : xC E RX0 cX0_thickest 3 (some .int) p s m args meth c) (a : Int32 × Int32) (y : (Int32 × Int32) ⊕ Int32) (hE : fX0_thickest_B4 k  w a = some y) (hc : ∀ a : Int32 × Int32, y = .inl a → xW p l e rmX0_thickest s m args below meth c E 3 Q 0 0 4 [(0, .ref (E.2.2.1 0)), (1, .int a.1), (2, .int a.2)] [] w) (hx1 : ∀ b : Int32, y = .inr b → xW p l e rmX0_thickest s m args below meth c E 3 Q 0 0 45 [(1, .int b)] [] w) : xW p l e rmX0_thickest s m args below meth c E 3 Q 0 0 4 [(0, .ref (E.2.2.1 0)), (1, .int a.1), (2, .int a.2)] [] w := by
  intro H locs cells slots ls hP hS hB hl
  have hx := hC.1
  have hb := hC.2.1
  have hown := hC.2.2.2.2.2.1
  have hts := hC.2.2.2.2.2.2.1
  unfold fX0_thickest_B4 at hE
  refine lv_iload_n hx hb dX0_thickest_4 rfl (lv_at hl 2 rfl) ?_
  refine lv_bipush (v := 30) hx hb dX0_thickest_5 (by decide) ?_
  refine lv_icmp_ge (tgt := 45) hx hb dX0_thickest_7 (by decide) (fun c_1 => ?_) (fun c_1 => ?_)
  · have hE := ip c_1 hE
    exact hx1 _ (Option.some.inj hE).symm H locs cells slots ls hP hS hB (lv_sub hl [1] rfl)
  · have hE := iq c_1 hE
    refine lv_aload_n hx hb dX0_thickest_10 rfl (lv_at hl 0 rfl) ?_
    refine gX_21 hC hP dX0_thickest_11 ?_
    refine gN_65_1 hC hP dX0_thickest_14 ?_
    refine lv_bipush (v := 32) hx hb dX0_thickest_17 (by decide) ?_
    refine lv_iload_n hx hb dX0_thickest_19 rfl (lv_at hl 2 rfl) ?_
    refine lv_iadd hx hb dX0_thickest_20 ?_
    obtain ⟨c_2, hE⟩ := og hE
    refine x_iald hC hP (⟨by decide, rfl, rfl⟩ : xint 9 190) c_2 dX0_thickest_21 ?_
    refine lv_aload_n hx hb dX0_thickest_22 rfl (lv_at hl 0 rfl) ?_
    refine gX_21 hC hP dX0_thickest_23 ?_
    refine gN_65_1 hC hP dX0_thickest_26 ?_
    refine lv_bipush (v := 32) hx hb dX0_thickest_29 (by decide) ?_
    refine lv_iload_n hx hb dX0_thickest_31 rfl (lv_at hl 1 rfl) ?_
    refine lv_iadd hx hb dX0_thickest_32 ?_
    obtain ⟨c_3, hE⟩ := og hE
    refine x_iald hC hP (⟨by decide, rfl, rfl⟩ : xint 9 190) c_3 dX0_thickest_33 ?_
    refine lv_icmp_le (tgt := 39) hx hb dX0_thickest_34 (by decide) (fun c_4 => ?_) (fun c_4 => ?_)
    · have hE := ip c_4 hE
      refine lv_iinc (v := (a.2 + (1 : Int32))) (lv' := [(2, .int (a.2 + (1 : Int32))), (0, .ref (E.2.2.1 0)), (1, .int a.1)]) hx hb dX0_thickest_39 hl (k := 2) rfl rfl (Nat.le_of_ble_eq_true rfl) rfl (fun ls hl => ?_)
      refine lv_goto (tgt := 4) hx hb dX0_thickest_42 (by decide) ?_
      exact hc _ (Option.some.inj hE).symm H locs cells slots ls hP hS hB (lv_sub hl [1, 2, 0] rfl)
    · have hE := iq c_4 hE
      refine lv_iload_n hx hb dX0_thickest_37 rfl (lv_at hl 2 rfl) ?_
      refine lv_istore_n (lv' := [(1, .int a.2), (0, .ref (E.2.2.1 0)), (2, .int a.2)]) hx hb dX0_thickest_38 rfl hl (Nat.le_of_ble_eq_true rfl) rfl (fun ls hl => ?_)
      refine lv_iinc (v := (a.2 + (1 : Int32))) (lv' := [(2, .int (a.2 + (1 : Int32))), (1, .int a.2), (0, .ref (E.2.2.1 0))]) hx hb dX0_thickest_39 hl (k := 2) rfl rfl (Nat.le_of_ble_eq_true rfl) rfl (fun ls hl => ?_)
      refine lv_goto (tgt := 4) hx hb dX0_thickest_42 (by decide) ?_
      exact hc _ (Option.some.inj hE).symm H locs cells slots ls hP hS hB (lv_sub hl [2, 1, 0] rfl)
noncomputable def fX0_thickest (k : Nat) (z : XS)  : Option Int32 := (lpo (fX0_thickest_B4 k  z) k ((0 : Int32), (1 : Int32))).bind fun x_5 => some x_5
set_option maxHeartbeats 1000000 in
theorem wX0_thickest {l : Launch} {E : XE} (k : Nat) (z : XS)  (y : Int32) (hE : fX0_thickest k z  = some y) : xM l yX0_thickest (ws_ yX0_thickest cX0_thickest 3 (some .int)) rmX0_thickest E z [.ref (E.2.2.1 0)] (some (.int y)) z := by
  refine x_met (own := RX0) (by decide) rfl (Nat.le_of_ble_eq_true rfl) (fun p e s m args below meth c hC => ?_)
  intro H locs cells slots ls hP hS hB hl
  have hx := hC.1
  have hb := hC.2.1
  have hown := hC.2.2.2.2.2.1
  have hts := hC.2.2.2.2.2.2.1
  have hl : lv_has ls 3 [(0, .ref (E.2.2.1 0))] := hl
  unfold fX0_thickest at hE
  refine lv_iconst (v := 0) hx hb dX0_thickest_0 (by decide) ?_
  refine lv_istore_n (lv' := [(1, .int (0 : Int32)), (0, .ref (E.2.2.1 0))]) hx hb dX0_thickest_1 rfl hl (Nat.le_of_ble_eq_true rfl) rfl (fun ls hl => ?_)
  refine lv_iconst (v := 1) hx hb dX0_thickest_2 (by decide) ?_
  refine lv_istore_n (lv' := [(2, .int (1 : Int32)), (1, .int (0 : Int32)), (0, .ref (E.2.2.1 0))]) hx hb dX0_thickest_3 rfl hl (Nat.le_of_ble_eq_true rfl) rfl (fun ls hl => ?_)
  obtain ⟨x_5, h_5, hE⟩ := ob hE
  refine lpo_walk (fun p_5 : Int32 × Int32 => xW p l e rmX0_thickest s m args below meth c E 3 (xQ E rmX0_thickest below args s (some (.int y)) z) 0 0 4 [(0, .ref (E.2.2.1 0)), (1, .int p_5.1), (2, .int p_5.2)] [] z) (fun q_5 : Int32 => xW p l e rmX0_thickest s m args below meth c E 3 (xQ E rmX0_thickest below args s (some (.int y)) z) 0 0 45 [(1, .int q_5)] [] z) (fun a_5 y_5 hB_5 hc_5 hx_5 => wX0_thickest_B4 k  z hC a_5 y_5 hB_5 hc_5 hx_5) _ _ x_5 h_5 ?_ H locs cells slots ls hP hS hB (lv_sub hl [2, 1, 0] rfl)
  intro H locs cells slots ls hP hS hB hl
  refine lv_iload_n hx hb dX0_thickest_45 rfl (lv_at hl 0 rfl) ?_
  obtain rfl := Option.some.inj hE
  exact x_iret hC hP hS hB dX0_thickest_46
noncomputable def fX0_ledger_J60 (k : Nat) (w : XS) (v1 : Int32) (x3 : Int32) (t0 : Int32) : Option ((Int32 × Int32) ⊕ Int32) := if ib (((70 : Int32) + ((4 : Int32) * x3)) + (3 : Int32)) 190 then none else (nm (t0 + (w.2.1 9 (((70 : Int32) + ((4 : Int32) * x3)) + (3 : Int32)).toNatClampNeg)) fun v_6 => some (.inl (v_6, (x3 + (1 : Int32)))))
set_option maxHeartbeats 1000000 in
theorem wX0_ledger_J60 {p : Program} {l : Launch} {e : Env} {s : State} {m : MethodId} {args : Array Value} {below : List Frame} {meth : Method} {c : Code} {E : XE} {Q : State → Prop} (k : Nat) (w : XS) (v1 : Int32) (x3 : Int32) (t0 : Int32) (hC : xC E RX0 cX0_ledger 4 (some .int) p s m args meth c) (y : (Int32 × Int32) ⊕ Int32) (hE : fX0_ledger_J60 k w v1 x3 t0 = some y) (hc : ∀ a : Int32 × Int32, y = .inl a → xW p l e rmX0_ledger s m args below meth c E 4 Q 0 0 20 [(0, .ref (E.2.2.1 0)), (1, .int v1), (2, .int a.1), (3, .int a.2)] [] w) (hx1 : ∀ b : Int32, y = .inr b → xW p l e rmX0_ledger s m args below meth c E 4 Q 0 0 88 [(2, .int b)] [] w) : xW p l e rmX0_ledger s m args below meth c E 4 Q 0 0 60 [(0, .ref (E.2.2.1 0)), (1, .int v1), (3, .int x3)] [.int t0] w := by
  intro H locs cells slots ls hP hS hB hl
  have hx := hC.1
  have hb := hC.2.1
  have hown := hC.2.2.2.2.2.1
  have hts := hC.2.2.2.2.2.2.1
  unfold fX0_ledger_J60 at hE
  refine lv_aload_n hx hb dX0_ledger_60 rfl (lv_at hl 0 rfl) ?_
  refine gX_21 hC hP dX0_ledger_61 ?_
  refine gN_65_1 hC hP dX0_ledger_64 ?_
  refine lv_bipush (v := 70) hx hb dX0_ledger_67 (by decide) ?_
  refine lv_iconst (v := 4) hx hb dX0_ledger_69 (by decide) ?_
  refine lv_iload_n hx hb dX0_ledger_70 rfl (lv_at hl 2 rfl) ?_
  refine lv_imul hx hb dX0_ledger_71 ?_
  refine lv_iadd hx hb dX0_ledger_72 ?_
  refine lv_iconst (v := 3) hx hb dX0_ledger_73 (by decide) ?_
  refine lv_iadd hx hb dX0_ledger_74 ?_
  obtain ⟨c_5, hE⟩ := og hE
  refine x_iald hC hP (⟨by decide, rfl, rfl⟩ : xint 9 190) c_5 dX0_ledger_75 ?_
  refine lv_goto (tgt := 80) hx hb dX0_ledger_76 (by decide) ?_
  refine lv_iadd hx hb dX0_ledger_80 ?_
  refine nm_i hE (fun v_6 ev_6 hE => ?_)
  refine lv_istore_n (lv' := [(2, .int v_6), (0, .ref (E.2.2.1 0)), (1, .int v1), (3, .int x3)]) hx hb dX0_ledger_81 rfl hl (Nat.le_of_ble_eq_true rfl) rfl (fun ls hl => ?_)
  refine lv_iinc (v := (x3 + (1 : Int32))) (lv' := [(3, .int (x3 + (1 : Int32))), (2, .int v_6), (0, .ref (E.2.2.1 0)), (1, .int v1)]) hx hb dX0_ledger_82 hl (k := 3) rfl rfl (Nat.le_of_ble_eq_true rfl) rfl (fun ls hl => ?_)
  refine lv_goto (tgt := 20) hx hb dX0_ledger_85 (by decide) ?_
  exact hc _ (Option.some.inj hE).symm H locs cells slots ls hP hS hB (lv_sub hl [2, 3, 1, 0] rfl)
noncomputable def fX0_ledger_B20 (k : Nat) (v1 : Int32) (w : XS) (a : Int32 × Int32) : Option ((Int32 × Int32) ⊕ Int32) := if (w.2.1 9 (69 : Int32).toNatClampNeg) ≤ a.2 then (some (.inr a.1)) else (if v1 = (-1 : Int32) then ((fX0_ledger_J60 k w v1 a.2 a.1)) else (if ib (((70 : Int32) + ((4 : Int32) * a.2)) + (1 : Int32)) 190 then none else (if (w.2.1 9 (((70 : Int32) + ((4 : Int32) * a.2)) + (1 : Int32)).toNatClampNeg) = v1 then ((fX0_ledger_J60 k w v1 a.2 a.1)) else (some (.inl ((a.1 + (0 : Int32)), (a.2 + (1 : Int32))))))))
set_option maxHeartbeats 1000000 in
theorem wX0_ledger_B20 {p : Program} {l : Launch} {e : Env} {s : State} {m : MethodId} {args : Array Value} {below : List Frame} {meth : Method} {c : Code} {E : XE} {Q : State → Prop} (k : Nat) (v1 : Int32) (w : XS) (hC : xC E RX0 cX0_ledger 4 (some .int) p s m args meth c) (a : Int32 × Int32) (y : (Int32 × Int32) ⊕ Int32) (hE : fX0_ledger_B20 k v1 w a = some y) (hc : ∀ a : Int32 × Int32, y = .inl a → xW p l e rmX0_ledger s m args below meth c E 4 Q 0 0 20 [(0, .ref (E.2.2.1 0)), (1, .int v1), (2, .int a.1), (3, .int a.2)] [] w) (hx1 : ∀ b : Int32, y = .inr b → xW p l e rmX0_ledger s m args below meth c E 4 Q 0 0 88 [(2, .int b)] [] w) : xW p l e rmX0_ledger s m args below meth c E 4 Q 0 0 20 [(0, .ref (E.2.2.1 0)), (1, .int v1), (2, .int a.1), (3, .int a.2)] [] w := by
  intro H locs cells slots ls hP hS hB hl
  have hx := hC.1
  have hb := hC.2.1
  have hown := hC.2.2.2.2.2.1
  have hts := hC.2.2.2.2.2.2.1
  unfold fX0_ledger_B20 at hE
  refine lv_iload_n hx hb dX0_ledger_20 rfl (lv_at hl 3 rfl) ?_
  refine lv_aload_n hx hb dX0_ledger_21 rfl (lv_at hl 0 rfl) ?_
  refine gX_21 hC hP dX0_ledger_22 ?_
  refine gN_65_1 hC hP dX0_ledger_25 ?_
  refine lv_bipush (v := 69) hx hb dX0_ledger_28 (by decide) ?_
  refine x_iald hC hP (⟨by decide, rfl, rfl⟩ : xint 9 190) (i := (69 : Int32)) (by decide) dX0_ledger_30 ?_
  refine lv_icmp_ge (tgt := 88) hx hb dX0_ledger_31 (by decide) (fun c_3 => ?_) (fun c_3 => ?_)
  · have hE := ip c_3 hE
    exact hx1 _ (Option.some.inj hE).symm H locs cells slots ls hP hS hB (lv_sub hl [2] rfl)
  · have hE := iq c_3 hE
    refine lv_iload_n hx hb dX0_ledger_34 rfl (lv_at hl 2 rfl) ?_
    refine lv_iload_n hx hb dX0_ledger_35 rfl (lv_at hl 1 rfl) ?_
    refine lv_iconst (v := -1) hx hb dX0_ledger_36 (by decide) ?_
    refine lv_icmp_eq (tgt := 60) hx hb dX0_ledger_37 (by decide) (fun c_4 => ?_) (fun c_4 => ?_)
    · have hE := ip c_4 hE
      exact wX0_ledger_J60 k w v1 a.2 a.1 hC y hE hc hx1 H locs cells slots ls hP hS hB (lv_sub hl [0, 1, 3] rfl)
    · have hE := iq c_4 hE
      refine lv_aload_n hx hb dX0_ledger_40 rfl (lv_at hl 0 rfl) ?_
      refine gX_21 hC hP dX0_ledger_41 ?_
      refine gN_65_1 hC hP dX0_ledger_44 ?_
      refine lv_bipush (v := 70) hx hb dX0_ledger_47 (by decide) ?_
      refine lv_iconst (v := 4) hx hb dX0_ledger_49 (by decide) ?_
      refine lv_iload_n hx hb dX0_ledger_50 rfl (lv_at hl 3 rfl) ?_
      refine lv_imul hx hb dX0_ledger_51 ?_
      refine lv_iadd hx hb dX0_ledger_52 ?_
      refine lv_iconst (v := 1) hx hb dX0_ledger_53 (by decide) ?_
      refine lv_iadd hx hb dX0_ledger_54 ?_
      obtain ⟨c_7, hE⟩ := og hE
      refine x_iald hC hP (⟨by decide, rfl, rfl⟩ : xint 9 190) c_7 dX0_ledger_55 ?_
      refine lv_iload_n hx hb dX0_ledger_56 rfl (lv_at hl 1 rfl) ?_
      refine lv_icmp_ne (tgt := 79) hx hb dX0_ledger_57 (by decide) (fun c_8 => ?_) (fun c_8 => ?_)
      · have hE := iq c_8 hE
        refine lv_iconst (v := 0) hx hb dX0_ledger_79 (by decide) ?_
        refine lv_iadd hx hb dX0_ledger_80 ?_
        refine lv_istore_n (lv' := [(2, .int (a.1 + (0 : Int32))), (0, .ref (E.2.2.1 0)), (1, .int v1), (3, .int a.2)]) hx hb dX0_ledger_81 rfl hl (Nat.le_of_ble_eq_true rfl) rfl (fun ls hl => ?_)
        refine lv_iinc (v := (a.2 + (1 : Int32))) (lv' := [(3, .int (a.2 + (1 : Int32))), (2, .int (a.1 + (0 : Int32))), (0, .ref (E.2.2.1 0)), (1, .int v1)]) hx hb dX0_ledger_82 hl (k := 3) rfl rfl (Nat.le_of_ble_eq_true rfl) rfl (fun ls hl => ?_)
        refine lv_goto (tgt := 20) hx hb dX0_ledger_85 (by decide) ?_
        exact hc _ (Option.some.inj hE).symm H locs cells slots ls hP hS hB (lv_sub hl [2, 3, 1, 0] rfl)
      · have hE := ip c_8 hE
        exact wX0_ledger_J60 k w v1 a.2 a.1 hC y hE hc hx1 H locs cells slots ls hP hS hB (lv_sub hl [0, 1, 3] rfl)
noncomputable def fX0_ledger_J16 (k : Nat) (z : XS) (x1 : Int32) : Option (Int32) := (lpo (fX0_ledger_B20 k x1 z) k ((0 : Int32), (0 : Int32))).bind fun x_9 => some x_9
set_option maxHeartbeats 1000000 in
theorem wX0_ledger_J16 {p : Program} {l : Launch} {e : Env} {s : State} {m : MethodId} {args : Array Value} {below : List Frame} {meth : Method} {c : Code} {E : XE} (k : Nat) (z : XS) (x1 : Int32) (hC : xC E RX0 cX0_ledger 4 (some .int) p s m args meth c) (y : Int32) (hE : fX0_ledger_J16 k z x1 = some y) : xW p l e rmX0_ledger s m args below meth c E 4 (xQ E rmX0_ledger below args s (some (.int y)) z) 0 0 16 [(0, .ref (E.2.2.1 0)), (1, .int x1)] [] z := by
  intro H locs cells slots ls hP hS hB hl
  have hx := hC.1
  have hb := hC.2.1
  have hown := hC.2.2.2.2.2.1
  have hts := hC.2.2.2.2.2.2.1
  unfold fX0_ledger_J16 at hE
  refine lv_iconst (v := 0) hx hb dX0_ledger_16 (by decide) ?_
  refine lv_istore_n (lv' := [(2, .int (0 : Int32)), (0, .ref (E.2.2.1 0)), (1, .int x1)]) hx hb dX0_ledger_17 rfl hl (Nat.le_of_ble_eq_true rfl) rfl (fun ls hl => ?_)
  refine lv_iconst (v := 0) hx hb dX0_ledger_18 (by decide) ?_
  refine lv_istore_n (lv' := [(3, .int (0 : Int32)), (2, .int (0 : Int32)), (0, .ref (E.2.2.1 0)), (1, .int x1)]) hx hb dX0_ledger_19 rfl hl (Nat.le_of_ble_eq_true rfl) rfl (fun ls hl => ?_)
  obtain ⟨x_9, h_9, hE⟩ := ob hE
  refine lpo_walk (fun p_9 : Int32 × Int32 => xW p l e rmX0_ledger s m args below meth c E 4 (xQ E rmX0_ledger below args s (some (.int y)) z) 0 0 20 [(0, .ref (E.2.2.1 0)), (1, .int x1), (2, .int p_9.1), (3, .int p_9.2)] [] z) (fun q_9 : Int32 => xW p l e rmX0_ledger s m args below meth c E 4 (xQ E rmX0_ledger below args s (some (.int y)) z) 0 0 88 [(2, .int q_9)] [] z) (fun a_9 y_9 hB_9 hc_9 hx_9 => wX0_ledger_B20 k x1 z hC a_9 y_9 hB_9 hc_9 hx_9) _ _ x_9 h_9 ?_ H locs cells slots ls hP hS hB (lv_sub hl [2, 3, 1, 0] rfl)
  intro H locs cells slots ls hP hS hB hl
  refine lv_iload_n hx hb dX0_ledger_88 rfl (lv_at hl 0 rfl) ?_
  obtain rfl := Option.some.inj hE
  exact x_iret hC hP hS hB dX0_ledger_89
noncomputable def fX0_ledger (k : Nat) (z : XS) (x1 : Int32) : Option Int32 := if x1 = (-1 : Int32) then ((fX0_ledger_J16 k z x1)) else ((fX0_isChild z x1).bind fun r_10 => if r_10 = 0 then (some (-2 : Int32)) else ((fX0_ledger_J16 k z x1)))
set_option maxHeartbeats 1000000 in
theorem wX0_ledger {l : Launch} {E : XE} (k : Nat) (z : XS) (x1 : Int32) (y : Int32) (hE : fX0_ledger k z x1 = some y) : xM l yX0_ledger (ws_ yX0_ledger cX0_ledger 4 (some .int)) rmX0_ledger E z [.ref (E.2.2.1 0), .int x1] (some (.int y)) z := by
  refine x_met (own := RX0) (by decide) rfl (Nat.le_of_ble_eq_true rfl) (fun p e s m args below meth c hC => ?_)
  intro H locs cells slots ls hP hS hB hl
  have hx := hC.1
  have hb := hC.2.1
  have hown := hC.2.2.2.2.2.1
  have hts := hC.2.2.2.2.2.2.1
  have hl : lv_has ls 4 [(0, .ref (E.2.2.1 0)), (1, .int x1)] := hl
  unfold fX0_ledger at hE
  refine lv_iload_n hx hb dX0_ledger_0 rfl (lv_at hl 1 rfl) ?_
  refine lv_iconst (v := -1) hx hb dX0_ledger_1 (by decide) ?_
  refine lv_icmp_eq (tgt := 16) hx hb dX0_ledger_2 (by decide) (fun c_1 => ?_) (fun c_1 => ?_)
  · have hE := ip c_1 hE
    exact wX0_ledger_J16 k z x1 hC y hE H locs cells slots ls hP hS hB hl
  · have hE := iq c_1 hE
    refine lv_aload_n hx hb dX0_ledger_5 rfl (lv_at hl 0 rfl) ?_
    refine lv_iload_n hx hb dX0_ledger_6 rfl (lv_at hl 1 rfl) ?_
    obtain ⟨r_10, h_10, hE⟩ := ob hE
    refine x_callV (rc1 := _) (rs1 := _) [.int x1] (E.2.2.1 0) hC hP hS hB hl.1 (wX0_isChild z x1 r_10 h_10) (xC.c0 hC) (xw_get E _ (k := 0) (by decide)) (cwV 1 hts lkX0_159 rfl rfl rfl cdX0_isChild ⟨Nat.le_of_ble_eq_true rfl, Nat.le_of_ble_eq_true rfl⟩) rfl rfl (lv_room (Nat.le_of_ble_eq_true rfl)) ⟨Nat.le_of_eq (Nat.zero_add _), Nat.le_of_eq (Nat.zero_add _)⟩ dX0_ledger_7 (fun H locs cells slots hP hS hB => ?_)
    show W p l e _ s m args below meth c H locs cells slots _ (F0 m _ ls (.int r_10 :: []))
    refine lv_if_ne (tgt := 16) hx hb dX0_ledger_10 (by decide) (fun c_11 => ?_) (fun c_11 => ?_)
    · have hE := iq c_11 hE
      exact wX0_ledger_J16 k z x1 hC y hE H locs cells slots ls hP hS hB hl
    · have hE := ip c_11 hE
      refine lv_bipush (v := -2) hx hb dX0_ledger_13 (by decide) ?_
      obtain rfl := Option.some.inj hE
      exact x_iret hC hP hS hB dX0_ledger_15
noncomputable def fX1_copy_2_13_22_B2 (k : Nat)  (a : Int32 × XS) : Option ((Int32 × XS) ⊕ XS) := if (6 : Int32) ≤ a.1 then (some (.inr a.2)) else (if ib a.1 6 then none else (if ib a.1 6 then none else (nm (xA a.2 (100 + a.1.toNatClampNeg) (va_cpy (a.2.2.1 (56 + a.1.toNatClampNeg)) (a.2.2.1 (100 + a.1.toNatClampNeg)) 0 0 3)) fun z_4 => some (.inl ((a.1 + (1 : Int32)), z_4)))))
set_option maxHeartbeats 1000000 in
theorem wX1_copy_2_13_22_B2 {p : Program} {l : Launch} {e : Env} {s : State} {m : MethodId} {args : Array Value} {below : List Frame} {meth : Method} {c : Code} {E : XE} {Q : State → Prop} (k : Nat)  (hC : xC E RX1 cX1_copy_2 3 none p s m args meth c) (a : Int32 × XS) (y : (Int32 × XS) ⊕ XS) (hE : fX1_copy_2_13_22_B2 k  a = some y) (hc : ∀ a : Int32 × XS, y = .inl a → xW p l e rmX1_copy_2_13_22 s m args below meth c E 3 Q 0 0 2 [(0, .ref (E.2.2.1 13)), (1, .ref (E.2.2.1 22)), (2, .int a.1)] [] a.2) (hx1 : ∀ b : XS, y = .inr b → xW p l e rmX1_copy_2_13_22 s m args below meth c E 3 Q 0 0 23 [] [] b) : xW p l e rmX1_copy_2_13_22 s m args below meth c E 3 Q 0 0 2 [(0, .ref (E.2.2.1 13)), (1, .ref (E.2.2.1 22)), (2, .int a.1)] [] a.2 := by
  intro H locs cells slots ls hP hS hB hl
  have hx := hC.1
  have hb := hC.2.1
  have hown := hC.2.2.2.2.2.1
  have hts := hC.2.2.2.2.2.2.1
  unfold fX1_copy_2_13_22_B2 at hE
  refine lv_iload_n hx hb dX1_copy_2_2 rfl (lv_at hl 2 rfl) ?_
  refine lv_aload_n hx hb dX1_copy_2_3 rfl (lv_at hl 0 rfl) ?_
  refine x_olen hC hP xo_13 (v := 6) rfl dX1_copy_2_4 ?_
  refine lv_icmp_ge (tgt := 23) hx hb dX1_copy_2_5 (by decide) (fun c_1 => ?_) (fun c_1 => ?_)
  · have hE := ip c_1 hE
    exact hx1 _ (Option.some.inj hE).symm H locs cells slots ls hP hS hB (lv_sub hl [] rfl)
  · have hE := iq c_1 hE
    refine lv_aload_n hx hb dX1_copy_2_8 rfl (lv_at hl 0 rfl) ?_
    refine lv_iload_n hx hb dX1_copy_2_9 rfl (lv_at hl 2 rfl) ?_
    obtain ⟨c_2, hE⟩ := og hE
    refine x_aald hC hP xo_13 c_2 dX1_copy_2_10 ?_
    refine lv_aload_n hx hb dX1_copy_2_11 rfl (lv_at hl 1 rfl) ?_
    refine lv_iload_n hx hb dX1_copy_2_12 rfl (lv_at hl 2 rfl) ?_
    obtain ⟨c_3, hE⟩ := og hE
    refine x_aald hC hP xo_22 c_3 dX1_copy_2_13 ?_
    obtain ⟨z_4, ez_4, hE⟩ := on hE
    refine x_callS (rc1 := _) (rs1 := _) [.ref (E.2.2.1 (56 + a.1.toNatClampNeg)), .ref (E.2.2.1 (100 + a.1.toNatClampNeg))] hC hP hS hB hl.1 (wX1_copy (n := 3) (xrow xo_13 c_2) (xrow xo_22 c_3) (by decide) ez_4) (va_cwS 2 hts lkX1_56 rfl rfl rfl cdX1_copy ⟨Nat.le_of_ble_eq_true rfl, Nat.le_of_ble_eq_true rfl⟩) rfl rfl (lv_room (Nat.le_of_ble_eq_true rfl)) ⟨Nat.le_of_eq (Nat.zero_add _), Nat.le_of_eq (Nat.zero_add _)⟩ dX1_copy_2_14 (fun H locs cells slots hP hS hB => ?_)
    refine lv_iinc (v := (a.1 + (1 : Int32))) (lv' := [(2, .int (a.1 + (1 : Int32))), (0, .ref (E.2.2.1 13)), (1, .ref (E.2.2.1 22))]) hx hb dX1_copy_2_17 hl (k := 2) rfl rfl (Nat.le_of_ble_eq_true rfl) rfl (fun ls hl => ?_)
    refine lv_goto (tgt := 2) hx hb dX1_copy_2_20 (by decide) ?_
    exact hc _ (Option.some.inj hE).symm H locs cells slots ls hP hS hB (lv_sub hl [1, 2, 0] rfl)
noncomputable def fX1_copy_2_13_22 (k : Nat) (z : XS)  : Option XS := (lpo (fX1_copy_2_13_22_B2 k ) k ((0 : Int32), z)).bind fun x_5 => some x_5
set_option maxHeartbeats 1000000 in
theorem wX1_copy_2_13_22 {l : Launch} {E : XE} (k : Nat) (z : XS)  (y : XS) (hE : fX1_copy_2_13_22 k z  = some y) : xM l yX1_copy_2 (ws_ yX1_copy_2 cX1_copy_2 3 none) rmX1_copy_2_13_22 E z [.ref (E.2.2.1 13), .ref (E.2.2.1 22)] none y := by
  refine x_met (own := RX1) (by decide) rfl (Nat.le_of_ble_eq_true rfl) (fun p e s m args below meth c hC => ?_)
  intro H locs cells slots ls hP hS hB hl
  have hx := hC.1
  have hb := hC.2.1
  have hown := hC.2.2.2.2.2.1
  have hts := hC.2.2.2.2.2.2.1
  have hl : lv_has ls 3 [(0, .ref (E.2.2.1 13)), (1, .ref (E.2.2.1 22))] := hl
  unfold fX1_copy_2_13_22 at hE
  refine lv_iconst (v := 0) hx hb dX1_copy_2_0 (by decide) ?_
  refine lv_istore_n (lv' := [(2, .int (0 : Int32)), (0, .ref (E.2.2.1 13)), (1, .ref (E.2.2.1 22))]) hx hb dX1_copy_2_1 rfl hl (Nat.le_of_ble_eq_true rfl) rfl (fun ls hl => ?_)
  obtain ⟨x_5, h_5, hE⟩ := ob hE
  refine lpo_walk (fun p_5 : Int32 × XS => xW p l e rmX1_copy_2_13_22 s m args below meth c E 3 (xQ E rmX1_copy_2_13_22 below args s none y) 0 0 2 [(0, .ref (E.2.2.1 13)), (1, .ref (E.2.2.1 22)), (2, .int p_5.1)] [] p_5.2) (fun q_5 : XS => xW p l e rmX1_copy_2_13_22 s m args below meth c E 3 (xQ E rmX1_copy_2_13_22 below args s none y) 0 0 23 [] [] q_5) (fun a_5 y_5 hB_5 hc_5 hx_5 => wX1_copy_2_13_22_B2 k  hC a_5 y_5 hB_5 hc_5 hx_5) _ _ x_5 h_5 ?_ H locs cells slots ls hP hS hB (lv_sub hl [1, 2, 0] rfl)
  intro H locs cells slots ls hP hS hB hl
  obtain rfl := Option.some.inj hE
  exact x_vret hC hP hS hB dX1_copy_2_23
noncomputable def fX1_copy_2_14_23_B2 (k : Nat)  (a : Int32 × XS) : Option ((Int32 × XS) ⊕ XS) := if (8 : Int32) ≤ a.1 then (some (.inr a.2)) else (if ib a.1 8 then none else (if ib a.1 8 then none else (nm (xA a.2 (106 + a.1.toNatClampNeg) (va_cpy (a.2.2.1 (62 + a.1.toNatClampNeg)) (a.2.2.1 (106 + a.1.toNatClampNeg)) 0 0 3)) fun z_4 => some (.inl ((a.1 + (1 : Int32)), z_4)))))
set_option maxHeartbeats 1000000 in
theorem wX1_copy_2_14_23_B2 {p : Program} {l : Launch} {e : Env} {s : State} {m : MethodId} {args : Array Value} {below : List Frame} {meth : Method} {c : Code} {E : XE} {Q : State → Prop} (k : Nat)  (hC : xC E RX1 cX1_copy_2 3 none p s m args meth c) (a : Int32 × XS) (y : (Int32 × XS) ⊕ XS) (hE : fX1_copy_2_14_23_B2 k  a = some y) (hc : ∀ a : Int32 × XS, y = .inl a → xW p l e rmX1_copy_2_14_23 s m args below meth c E 3 Q 0 0 2 [(0, .ref (E.2.2.1 14)), (1, .ref (E.2.2.1 23)), (2, .int a.1)] [] a.2) (hx1 : ∀ b : XS, y = .inr b → xW p l e rmX1_copy_2_14_23 s m args below meth c E 3 Q 0 0 23 [] [] b) : xW p l e rmX1_copy_2_14_23 s m args below meth c E 3 Q 0 0 2 [(0, .ref (E.2.2.1 14)), (1, .ref (E.2.2.1 23)), (2, .int a.1)] [] a.2 := by
  intro H locs cells slots ls hP hS hB hl
  have hx := hC.1
  have hb := hC.2.1
  have hown := hC.2.2.2.2.2.1
  have hts := hC.2.2.2.2.2.2.1
  unfold fX1_copy_2_14_23_B2 at hE
  refine lv_iload_n hx hb dX1_copy_2_2 rfl (lv_at hl 2 rfl) ?_
  refine lv_aload_n hx hb dX1_copy_2_3 rfl (lv_at hl 0 rfl) ?_
  refine x_olen hC hP xo_14 (v := 8) rfl dX1_copy_2_4 ?_
  refine lv_icmp_ge (tgt := 23) hx hb dX1_copy_2_5 (by decide) (fun c_1 => ?_) (fun c_1 => ?_)
  · have hE := ip c_1 hE
    exact hx1 _ (Option.some.inj hE).symm H locs cells slots ls hP hS hB (lv_sub hl [] rfl)
  · have hE := iq c_1 hE
    refine lv_aload_n hx hb dX1_copy_2_8 rfl (lv_at hl 0 rfl) ?_
    refine lv_iload_n hx hb dX1_copy_2_9 rfl (lv_at hl 2 rfl) ?_
    obtain ⟨c_2, hE⟩ := og hE
    refine x_aald hC hP xo_14 c_2 dX1_copy_2_10 ?_
    refine lv_aload_n hx hb dX1_copy_2_11 rfl (lv_at hl 1 rfl) ?_
    refine lv_iload_n hx hb dX1_copy_2_12 rfl (lv_at hl 2 rfl) ?_
    obtain ⟨c_3, hE⟩ := og hE
    refine x_aald hC hP xo_23 c_3 dX1_copy_2_13 ?_
    obtain ⟨z_4, ez_4, hE⟩ := on hE
    refine x_callS (rc1 := _) (rs1 := _) [.ref (E.2.2.1 (62 + a.1.toNatClampNeg)), .ref (E.2.2.1 (106 + a.1.toNatClampNeg))] hC hP hS hB hl.1 (wX1_copy (n := 3) (xrow xo_14 c_2) (xrow xo_23 c_3) (by decide) ez_4) (va_cwS 2 hts lkX1_56 rfl rfl rfl cdX1_copy ⟨Nat.le_of_ble_eq_true rfl, Nat.le_of_ble_eq_true rfl⟩) rfl rfl (lv_room (Nat.le_of_ble_eq_true rfl)) ⟨Nat.le_of_eq (Nat.zero_add _), Nat.le_of_eq (Nat.zero_add _)⟩ dX1_copy_2_14 (fun H locs cells slots hP hS hB => ?_)
    refine lv_iinc (v := (a.1 + (1 : Int32))) (lv' := [(2, .int (a.1 + (1 : Int32))), (0, .ref (E.2.2.1 14)), (1, .ref (E.2.2.1 23))]) hx hb dX1_copy_2_17 hl (k := 2) rfl rfl (Nat.le_of_ble_eq_true rfl) rfl (fun ls hl => ?_)
    refine lv_goto (tgt := 2) hx hb dX1_copy_2_20 (by decide) ?_
    exact hc _ (Option.some.inj hE).symm H locs cells slots ls hP hS hB (lv_sub hl [1, 2, 0] rfl)
noncomputable def fX1_copy_2_14_23 (k : Nat) (z : XS)  : Option XS := (lpo (fX1_copy_2_14_23_B2 k ) k ((0 : Int32), z)).bind fun x_5 => some x_5
set_option maxHeartbeats 1000000 in
theorem wX1_copy_2_14_23 {l : Launch} {E : XE} (k : Nat) (z : XS)  (y : XS) (hE : fX1_copy_2_14_23 k z  = some y) : xM l yX1_copy_2 (ws_ yX1_copy_2 cX1_copy_2 3 none) rmX1_copy_2_14_23 E z [.ref (E.2.2.1 14), .ref (E.2.2.1 23)] none y := by
  refine x_met (own := RX1) (by decide) rfl (Nat.le_of_ble_eq_true rfl) (fun p e s m args below meth c hC => ?_)
  intro H locs cells slots ls hP hS hB hl
  have hx := hC.1
  have hb := hC.2.1
  have hown := hC.2.2.2.2.2.1
  have hts := hC.2.2.2.2.2.2.1
  have hl : lv_has ls 3 [(0, .ref (E.2.2.1 14)), (1, .ref (E.2.2.1 23))] := hl
  unfold fX1_copy_2_14_23 at hE
  refine lv_iconst (v := 0) hx hb dX1_copy_2_0 (by decide) ?_
  refine lv_istore_n (lv' := [(2, .int (0 : Int32)), (0, .ref (E.2.2.1 14)), (1, .ref (E.2.2.1 23))]) hx hb dX1_copy_2_1 rfl hl (Nat.le_of_ble_eq_true rfl) rfl (fun ls hl => ?_)
  obtain ⟨x_5, h_5, hE⟩ := ob hE
  refine lpo_walk (fun p_5 : Int32 × XS => xW p l e rmX1_copy_2_14_23 s m args below meth c E 3 (xQ E rmX1_copy_2_14_23 below args s none y) 0 0 2 [(0, .ref (E.2.2.1 14)), (1, .ref (E.2.2.1 23)), (2, .int p_5.1)] [] p_5.2) (fun q_5 : XS => xW p l e rmX1_copy_2_14_23 s m args below meth c E 3 (xQ E rmX1_copy_2_14_23 below args s none y) 0 0 23 [] [] q_5) (fun a_5 y_5 hB_5 hc_5 hx_5 => wX1_copy_2_14_23_B2 k  hC a_5 y_5 hB_5 hc_5 hx_5) _ _ x_5 h_5 ?_ H locs cells slots ls hP hS hB (lv_sub hl [1, 2, 0] rfl)
  intro H locs cells slots ls hP hS hB hl
  obtain rfl := Option.some.inj hE
  exact x_vret hC hP hS hB dX1_copy_2_23
noncomputable def fX1_copy_2_15_24_B2 (k : Nat)  (a : Int32 × XS) : Option ((Int32 × XS) ⊕ XS) := if (30 : Int32) ≤ a.1 then (some (.inr a.2)) else (if ib a.1 30 then none else (if ib a.1 30 then none else (nm (xA a.2 (114 + a.1.toNatClampNeg) (va_cpy (a.2.2.1 (70 + a.1.toNatClampNeg)) (a.2.2.1 (114 + a.1.toNatClampNeg)) 0 0 190)) fun z_4 => some (.inl ((a.1 + (1 : Int32)), z_4)))))
set_option maxHeartbeats 1000000 in
theorem wX1_copy_2_15_24_B2 {p : Program} {l : Launch} {e : Env} {s : State} {m : MethodId} {args : Array Value} {below : List Frame} {meth : Method} {c : Code} {E : XE} {Q : State → Prop} (k : Nat)  (hC : xC E RX1 cX1_copy_2 3 none p s m args meth c) (a : Int32 × XS) (y : (Int32 × XS) ⊕ XS) (hE : fX1_copy_2_15_24_B2 k  a = some y) (hc : ∀ a : Int32 × XS, y = .inl a → xW p l e rmX1_copy_2_15_24 s m args below meth c E 3 Q 0 0 2 [(0, .ref (E.2.2.1 15)), (1, .ref (E.2.2.1 24)), (2, .int a.1)] [] a.2) (hx1 : ∀ b : XS, y = .inr b → xW p l e rmX1_copy_2_15_24 s m args below meth c E 3 Q 0 0 23 [] [] b) : xW p l e rmX1_copy_2_15_24 s m args below meth c E 3 Q 0 0 2 [(0, .ref (E.2.2.1 15)), (1, .ref (E.2.2.1 24)), (2, .int a.1)] [] a.2 := by
  intro H locs cells slots ls hP hS hB hl
  have hx := hC.1
  have hb := hC.2.1
  have hown := hC.2.2.2.2.2.1
  have hts := hC.2.2.2.2.2.2.1
  unfold fX1_copy_2_15_24_B2 at hE
  refine lv_iload_n hx hb dX1_copy_2_2 rfl (lv_at hl 2 rfl) ?_
  refine lv_aload_n hx hb dX1_copy_2_3 rfl (lv_at hl 0 rfl) ?_
  refine x_olen hC hP xo_15 (v := 30) rfl dX1_copy_2_4 ?_
  refine lv_icmp_ge (tgt := 23) hx hb dX1_copy_2_5 (by decide) (fun c_1 => ?_) (fun c_1 => ?_)
  · have hE := ip c_1 hE
    exact hx1 _ (Option.some.inj hE).symm H locs cells slots ls hP hS hB (lv_sub hl [] rfl)
  · have hE := iq c_1 hE
    refine lv_aload_n hx hb dX1_copy_2_8 rfl (lv_at hl 0 rfl) ?_
    refine lv_iload_n hx hb dX1_copy_2_9 rfl (lv_at hl 2 rfl) ?_
    obtain ⟨c_2, hE⟩ := og hE
    refine x_aald hC hP xo_15 c_2 dX1_copy_2_10 ?_
    refine lv_aload_n hx hb dX1_copy_2_11 rfl (lv_at hl 1 rfl) ?_
    refine lv_iload_n hx hb dX1_copy_2_12 rfl (lv_at hl 2 rfl) ?_
    obtain ⟨c_3, hE⟩ := og hE
    refine x_aald hC hP xo_24 c_3 dX1_copy_2_13 ?_
    obtain ⟨z_4, ez_4, hE⟩ := on hE
    refine x_callS (rc1 := _) (rs1 := _) [.ref (E.2.2.1 (70 + a.1.toNatClampNeg)), .ref (E.2.2.1 (114 + a.1.toNatClampNeg))] hC hP hS hB hl.1 (wX1_copy (n := 190) (xrow xo_15 c_2) (xrow xo_24 c_3) (by decide) ez_4) (va_cwS 2 hts lkX1_56 rfl rfl rfl cdX1_copy ⟨Nat.le_of_ble_eq_true rfl, Nat.le_of_ble_eq_true rfl⟩) rfl rfl (lv_room (Nat.le_of_ble_eq_true rfl)) ⟨Nat.le_of_eq (Nat.zero_add _), Nat.le_of_eq (Nat.zero_add _)⟩ dX1_copy_2_14 (fun H locs cells slots hP hS hB => ?_)
    refine lv_iinc (v := (a.1 + (1 : Int32))) (lv' := [(2, .int (a.1 + (1 : Int32))), (0, .ref (E.2.2.1 15)), (1, .ref (E.2.2.1 24))]) hx hb dX1_copy_2_17 hl (k := 2) rfl rfl (Nat.le_of_ble_eq_true rfl) rfl (fun ls hl => ?_)
    refine lv_goto (tgt := 2) hx hb dX1_copy_2_20 (by decide) ?_
    exact hc _ (Option.some.inj hE).symm H locs cells slots ls hP hS hB (lv_sub hl [1, 2, 0] rfl)
noncomputable def fX1_copy_2_15_24 (k : Nat) (z : XS)  : Option XS := (lpo (fX1_copy_2_15_24_B2 k ) k ((0 : Int32), z)).bind fun x_5 => some x_5
set_option maxHeartbeats 1000000 in
theorem wX1_copy_2_15_24 {l : Launch} {E : XE} (k : Nat) (z : XS)  (y : XS) (hE : fX1_copy_2_15_24 k z  = some y) : xM l yX1_copy_2 (ws_ yX1_copy_2 cX1_copy_2 3 none) rmX1_copy_2_15_24 E z [.ref (E.2.2.1 15), .ref (E.2.2.1 24)] none y := by
  refine x_met (own := RX1) (by decide) rfl (Nat.le_of_ble_eq_true rfl) (fun p e s m args below meth c hC => ?_)
  intro H locs cells slots ls hP hS hB hl
  have hx := hC.1
  have hb := hC.2.1
  have hown := hC.2.2.2.2.2.1
  have hts := hC.2.2.2.2.2.2.1
  have hl : lv_has ls 3 [(0, .ref (E.2.2.1 15)), (1, .ref (E.2.2.1 24))] := hl
  unfold fX1_copy_2_15_24 at hE
  refine lv_iconst (v := 0) hx hb dX1_copy_2_0 (by decide) ?_
  refine lv_istore_n (lv' := [(2, .int (0 : Int32)), (0, .ref (E.2.2.1 15)), (1, .ref (E.2.2.1 24))]) hx hb dX1_copy_2_1 rfl hl (Nat.le_of_ble_eq_true rfl) rfl (fun ls hl => ?_)
  obtain ⟨x_5, h_5, hE⟩ := ob hE
  refine lpo_walk (fun p_5 : Int32 × XS => xW p l e rmX1_copy_2_15_24 s m args below meth c E 3 (xQ E rmX1_copy_2_15_24 below args s none y) 0 0 2 [(0, .ref (E.2.2.1 15)), (1, .ref (E.2.2.1 24)), (2, .int p_5.1)] [] p_5.2) (fun q_5 : XS => xW p l e rmX1_copy_2_15_24 s m args below meth c E 3 (xQ E rmX1_copy_2_15_24 below args s none y) 0 0 23 [] [] q_5) (fun a_5 y_5 hB_5 hc_5 hx_5 => wX1_copy_2_15_24_B2 k  hC a_5 y_5 hB_5 hc_5 hx_5) _ _ x_5 h_5 ?_ H locs cells slots ls hP hS hB (lv_sub hl [1, 2, 0] rfl)
  intro H locs cells slots ls hP hS hB hl
  obtain rfl := Option.some.inj hE
  exact x_vret hC hP hS hB dX1_copy_2_23
noncomputable def fX1_be_2_1 (k : Nat) (V : XV) (z : XS)  : Option XS := nm (xA z 17 (va_cpy (z.2.1 8) (z.2.1 17) 0 0 6)) fun z_1 => nm (xA z_1 18 (va_cpy (z_1.2.1 9) (z_1.2.1 18) 0 0 190)) fun z_2 => nm (xA z_2 19 (va_cpy (z_2.2.1 10) (z_2.2.1 19) 0 0 7)) fun z_3 => nm (xA z_3 20 (va_cpy (z_3.2.1 11) (z_3.2.1 20) 0 0 7)) fun z_4 => nm (xA z_4 21 (va_cpy (z_4.2.1 12) (z_4.2.1 21) 0 0 13)) fun z_5 => (fX1_copy_2_13_22 k z_5 ).bind fun r_6 => (fX1_copy_2_14_23 k r_6 ).bind fun r_7 => (fX1_copy_2_15_24 k r_7 ).bind fun r_8 => gdp (xTok V r_8 16) (nm (xT r_8 25 (va_cpy (r_8.2.2 16) (r_8.2.2 25) 0 0 4)) fun z_9 => some z_9)
set_option maxHeartbeats 1000000 in
theorem wX1_be_2_1 {l : Launch} {E : XE} (k : Nat) (z : XS)  (y : XS) (hE : fX1_be_2_1 k E.2.2.2.2.2 z  = some y) : xM l yX1_be (ws_ yX1_be cX1_be 2 none) rmX1_be_2_1 E z [.ref (E.2.2.1 2), .ref (E.2.2.1 1)] none y := by
  refine x_met (own := RX1) (by decide) rfl (Nat.le_of_ble_eq_true rfl) (fun p e s m args below meth c hC => ?_)
  intro H locs cells slots ls hP hS hB hl
  have hx := hC.1
  have hb := hC.2.1
  have hown := hC.2.2.2.2.2.1
  have hts := hC.2.2.2.2.2.2.1
  have hl : lv_has ls 2 [(0, .ref (E.2.2.1 2)), (1, .ref (E.2.2.1 1))] := hl
  unfold fX1_be_2_1 at hE
  refine lv_aload_n hx hb dX1_be_0 rfl (lv_at hl 1 rfl) ?_
  refine gS_9_1 hC hP dX1_be_1 ?_
  refine lv_aload_n hx hb dX1_be_4 rfl (lv_at hl 0 rfl) ?_
  refine gS_9_2 hC hP dX1_be_5 ?_
  obtain ⟨z_1, ez_1, hE⟩ := on hE
  refine x_callS (rc1 := _) (rs1 := _) [.ref (E.2.2.1 8), .ref (E.2.2.1 17)] hC hP hS hB hl.1 (wX1_copy (n := 6) (⟨by decide, rfl, rfl⟩ : xint 8 6) (⟨by decide, rfl, rfl⟩ : xint 17 6) (by decide) ez_1) (va_cwS 2 hts lkX1_56 rfl rfl rfl cdX1_copy ⟨Nat.le_of_ble_eq_true rfl, Nat.le_of_ble_eq_true rfl⟩) rfl rfl (lv_room (Nat.le_of_ble_eq_true rfl)) ⟨Nat.le_of_eq (Nat.zero_add _), Nat.le_of_eq (Nat.zero_add _)⟩ dX1_be_8 (fun H locs cells slots hP hS hB => ?_)
  refine lv_aload_n hx hb dX1_be_11 rfl (lv_at hl 1 rfl) ?_
  refine gS_15_1 hC hP dX1_be_12 ?_
  refine lv_aload_n hx hb dX1_be_15 rfl (lv_at hl 0 rfl) ?_
  refine gS_15_2 hC hP dX1_be_16 ?_
  obtain ⟨z_2, ez_2, hE⟩ := on hE
  refine x_callS (rc1 := _) (rs1 := _) [.ref (E.2.2.1 9), .ref (E.2.2.1 18)] hC hP hS hB hl.1 (wX1_copy (n := 190) (⟨by decide, rfl, rfl⟩ : xint 9 190) (⟨by decide, rfl, rfl⟩ : xint 18 190) (by decide) ez_2) (va_cwS 2 hts lkX1_56 rfl rfl rfl cdX1_copy ⟨Nat.le_of_ble_eq_true rfl, Nat.le_of_ble_eq_true rfl⟩) rfl rfl (lv_room (Nat.le_of_ble_eq_true rfl)) ⟨Nat.le_of_eq (Nat.zero_add _), Nat.le_of_eq (Nat.zero_add _)⟩ dX1_be_19 (fun H locs cells slots hP hS hB => ?_)
  refine lv_aload_n hx hb dX1_be_22 rfl (lv_at hl 1 rfl) ?_
  refine gS_18_1 hC hP dX1_be_23 ?_
  refine lv_aload_n hx hb dX1_be_26 rfl (lv_at hl 0 rfl) ?_
  refine gS_18_2 hC hP dX1_be_27 ?_
  obtain ⟨z_3, ez_3, hE⟩ := on hE
  refine x_callS (rc1 := _) (rs1 := _) [.ref (E.2.2.1 10), .ref (E.2.2.1 19)] hC hP hS hB hl.1 (wX1_copy (n := 7) (⟨by decide, rfl, rfl⟩ : xint 10 7) (⟨by decide, rfl, rfl⟩ : xint 19 7) (by decide) ez_3) (va_cwS 2 hts lkX1_56 rfl rfl rfl cdX1_copy ⟨Nat.le_of_ble_eq_true rfl, Nat.le_of_ble_eq_true rfl⟩) rfl rfl (lv_room (Nat.le_of_ble_eq_true rfl)) ⟨Nat.le_of_eq (Nat.zero_add _), Nat.le_of_eq (Nat.zero_add _)⟩ dX1_be_30 (fun H locs cells slots hP hS hB => ?_)
  refine lv_aload_n hx hb dX1_be_33 rfl (lv_at hl 1 rfl) ?_
  refine gS_21_1 hC hP dX1_be_34 ?_
  refine lv_aload_n hx hb dX1_be_37 rfl (lv_at hl 0 rfl) ?_
  refine gS_21_2 hC hP dX1_be_38 ?_
  obtain ⟨z_4, ez_4, hE⟩ := on hE
  refine x_callS (rc1 := _) (rs1 := _) [.ref (E.2.2.1 11), .ref (E.2.2.1 20)] hC hP hS hB hl.1 (wX1_copy (n := 7) (⟨by decide, rfl, rfl⟩ : xint 11 7) (⟨by decide, rfl, rfl⟩ : xint 20 7) (by decide) ez_4) (va_cwS 2 hts lkX1_56 rfl rfl rfl cdX1_copy ⟨Nat.le_of_ble_eq_true rfl, Nat.le_of_ble_eq_true rfl⟩) rfl rfl (lv_room (Nat.le_of_ble_eq_true rfl)) ⟨Nat.le_of_eq (Nat.zero_add _), Nat.le_of_eq (Nat.zero_add _)⟩ dX1_be_41 (fun H locs cells slots hP hS hB => ?_)
  refine lv_aload_n hx hb dX1_be_44 rfl (lv_at hl 1 rfl) ?_
  refine gS_24_1 hC hP dX1_be_45 ?_
  refine lv_aload_n hx hb dX1_be_48 rfl (lv_at hl 0 rfl) ?_
  refine gS_24_2 hC hP dX1_be_49 ?_
  obtain ⟨z_5, ez_5, hE⟩ := on hE
  refine x_callS (rc1 := _) (rs1 := _) [.ref (E.2.2.1 12), .ref (E.2.2.1 21)] hC hP hS hB hl.1 (wX1_copy (n := 13) (⟨by decide, rfl, rfl⟩ : xint 12 13) (⟨by decide, rfl, rfl⟩ : xint 21 13) (by decide) ez_5) (va_cwS 2 hts lkX1_56 rfl rfl rfl cdX1_copy ⟨Nat.le_of_ble_eq_true rfl, Nat.le_of_ble_eq_true rfl⟩) rfl rfl (lv_room (Nat.le_of_ble_eq_true rfl)) ⟨Nat.le_of_eq (Nat.zero_add _), Nat.le_of_eq (Nat.zero_add _)⟩ dX1_be_52 (fun H locs cells slots hP hS hB => ?_)
  refine lv_aload_n hx hb dX1_be_55 rfl (lv_at hl 1 rfl) ?_
  refine gS_29_1 hC hP dX1_be_56 ?_
  refine lv_aload_n hx hb dX1_be_59 rfl (lv_at hl 0 rfl) ?_
  refine gS_29_2 hC hP dX1_be_60 ?_
  obtain ⟨r_6, h_6, hE⟩ := ob hE
  refine x_callS (rc1 := _) (rs1 := _) [.ref (E.2.2.1 13), .ref (E.2.2.1 22)] hC hP hS hB hl.1 (wX1_copy_2_13_22 k z_5  r_6 h_6) (va_cwS 2 hts lkX1_60 rfl rfl rfl cdX1_copy_2 ⟨Nat.le_of_ble_eq_true rfl, Nat.le_of_ble_eq_true rfl⟩) rfl rfl (lv_room (Nat.le_of_ble_eq_true rfl)) ⟨Nat.le_of_eq (Nat.zero_add _), Nat.le_of_eq (Nat.zero_add _)⟩ dX1_be_63 (fun H locs cells slots hP hS hB => ?_)
  show W p l e _ s m args below meth c H locs cells slots _ (F0 m _ ls ([]))
  refine lv_aload_n hx hb dX1_be_66 rfl (lv_at hl 1 rfl) ?_
  refine gS_32_1 hC hP dX1_be_67 ?_
  refine lv_aload_n hx hb dX1_be_70 rfl (lv_at hl 0 rfl) ?_
  refine gS_32_2 hC hP dX1_be_71 ?_
  obtain ⟨r_7, h_7, hE⟩ := ob hE
  refine x_callS (rc1 := _) (rs1 := _) [.ref (E.2.2.1 14), .ref (E.2.2.1 23)] hC hP hS hB hl.1 (wX1_copy_2_14_23 k r_6  r_7 h_7) (va_cwS 2 hts lkX1_60 rfl rfl rfl cdX1_copy_2 ⟨Nat.le_of_ble_eq_true rfl, Nat.le_of_ble_eq_true rfl⟩) rfl rfl (lv_room (Nat.le_of_ble_eq_true rfl)) ⟨Nat.le_of_eq (Nat.zero_add _), Nat.le_of_eq (Nat.zero_add _)⟩ dX1_be_74 (fun H locs cells slots hP hS hB => ?_)
  show W p l e _ s m args below meth c H locs cells slots _ (F0 m _ ls ([]))
  refine lv_aload_n hx hb dX1_be_77 rfl (lv_at hl 1 rfl) ?_
  refine gS_35_1 hC hP dX1_be_78 ?_
  refine lv_aload_n hx hb dX1_be_81 rfl (lv_at hl 0 rfl) ?_
  refine gS_35_2 hC hP dX1_be_82 ?_
  obtain ⟨r_8, h_8, hE⟩ := ob hE
  refine x_callS (rc1 := _) (rs1 := _) [.ref (E.2.2.1 15), .ref (E.2.2.1 24)] hC hP hS hB hl.1 (wX1_copy_2_15_24 k r_7  r_8 h_8) (va_cwS 2 hts lkX1_60 rfl rfl rfl cdX1_copy_2 ⟨Nat.le_of_ble_eq_true rfl, Nat.le_of_ble_eq_true rfl⟩) rfl rfl (lv_room (Nat.le_of_ble_eq_true rfl)) ⟨Nat.le_of_eq (Nat.zero_add _), Nat.le_of_eq (Nat.zero_add _)⟩ dX1_be_85 (fun H locs cells slots hP hS hB => ?_)
  show W p l e _ s m args below meth c H locs cells slots _ (F0 m _ ls ([]))
  refine lv_aload_n hx hb dX1_be_88 rfl (lv_at hl 1 rfl) ?_
  refine gS_40_1 hC hP dX1_be_89 ?_
  refine lv_iconst (v := 0) hx hb dX1_be_92 (by decide) ?_
  refine lv_aload_n hx hb dX1_be_93 rfl (lv_at hl 0 rfl) ?_
  refine gS_40_2 hC hP dX1_be_94 ?_
  refine lv_iconst (v := 0) hx hb dX1_be_97 (by decide) ?_
  refine lv_iconst (v := 4) hx hb dX1_be_98 (by decide) ?_
  obtain ⟨g_9, hE⟩ := ogp hE
  obtain ⟨z_9, ez_9, hE⟩ := on hE
  refine x_tcopy hC hP hS hl.1 (k0 := 16) (k1 := 25) ⟨by decide, rfl⟩ ⟨by decide, rfl⟩ g_9 q226 ez_9 (Nat.le_of_ble_eq_true rfl) (by decide) dX1_be_99 (fun H locs hP hS => ?_)
  obtain rfl := Option.some.inj hE
  exact x_vret hC hP hS hB dX1_be_102
noncomputable def fX0_image (k : Nat) (V : XV) (z : XS)  : Option (Int32 × XS) := (fX1_be_2_1 k V z ).bind fun r_1 => some ((r_1.2.1 9 (0 : Int32).toNatClampNeg), r_1)
set_option maxHeartbeats 1000000 in
theorem wX0_image {l : Launch} {E : XE} (k : Nat) (z : XS)  (y : Int32 × XS) (hE : fX0_image k E.2.2.2.2.2 z  = some y) : xM l yX0_image (ws_ yX0_image cX0_image 1 (some .int)) rmX0_image E z [.ref (E.2.2.1 0)] (some (.int y.1)) y.2 := by
  refine x_met (own := RX0) (by decide) rfl (Nat.le_of_ble_eq_true rfl) (fun p e s m args below meth c hC => ?_)
  intro H locs cells slots ls hP hS hB hl
  have hx := hC.1
  have hb := hC.2.1
  have hown := hC.2.2.2.2.2.1
  have hts := hC.2.2.2.2.2.2.1
  have hl : lv_has ls 1 [(0, .ref (E.2.2.1 0))] := hl
  unfold fX0_image at hE
  refine lv_aload_n hx hb dX0_image_0 rfl (lv_at hl 0 rfl) ?_
  refine gX_25 hC hP dX0_image_1 ?_
  refine lv_aload_n hx hb dX0_image_4 rfl (lv_at hl 0 rfl) ?_
  refine gX_21 hC hP dX0_image_5 ?_
  obtain ⟨r_1, h_1, hE⟩ := ob hE
  refine x_callV (rc1 := _) (rs1 := _) [.ref (E.2.2.1 1)] (E.2.2.1 2) hC hP hS hB hl.1 (wX1_be_2_1 k z  r_1 h_1) (xC.c1 hC) (xw_get E _ (k := 2) (by decide)) (cwV 1 hts lkX0_54 rfl rfl rfl cdX1_be ⟨Nat.le_of_ble_eq_true rfl, Nat.le_of_ble_eq_true rfl⟩) rfl rfl (lv_room (Nat.le_of_ble_eq_true rfl)) ⟨Nat.le_of_eq (Nat.zero_add _), Nat.le_of_eq (Nat.zero_add _)⟩ dX0_image_8 (fun H locs cells slots hP hS hB => ?_)
  show W p l e _ s m args below meth c H locs cells slots _ (F0 m _ ls ([]))
  refine lv_aload_n hx hb dX0_image_11 rfl (lv_at hl 0 rfl) ?_
  refine gX_21 hC hP dX0_image_12 ?_
  refine gN_65_1 hC hP dX0_image_15 ?_
  refine lv_iconst (v := 0) hx hb dX0_image_18 (by decide) ?_
  refine x_iald hC hP (⟨by decide, rfl, rfl⟩ : xint 9 190) (i := (0 : Int32)) (by decide) dX0_image_19 ?_
  obtain rfl := Option.some.inj hE
  exact x_iret hC hP hS hB dX0_image_20
noncomputable def fX1_copy_2_22_13_B2 (k : Nat)  (a : Int32 × XS) : Option ((Int32 × XS) ⊕ XS) := if (6 : Int32) ≤ a.1 then (some (.inr a.2)) else (if ib a.1 6 then none else (if ib a.1 6 then none else (nm (xA a.2 (56 + a.1.toNatClampNeg) (va_cpy (a.2.2.1 (100 + a.1.toNatClampNeg)) (a.2.2.1 (56 + a.1.toNatClampNeg)) 0 0 3)) fun z_4 => some (.inl ((a.1 + (1 : Int32)), z_4)))))
set_option maxHeartbeats 1000000 in
theorem wX1_copy_2_22_13_B2 {p : Program} {l : Launch} {e : Env} {s : State} {m : MethodId} {args : Array Value} {below : List Frame} {meth : Method} {c : Code} {E : XE} {Q : State → Prop} (k : Nat)  (hC : xC E RX1 cX1_copy_2 3 none p s m args meth c) (a : Int32 × XS) (y : (Int32 × XS) ⊕ XS) (hE : fX1_copy_2_22_13_B2 k  a = some y) (hc : ∀ a : Int32 × XS, y = .inl a → xW p l e rmX1_copy_2_22_13 s m args below meth c E 3 Q 0 0 2 [(0, .ref (E.2.2.1 22)), (1, .ref (E.2.2.1 13)), (2, .int a.1)] [] a.2) (hx1 : ∀ b : XS, y = .inr b → xW p l e rmX1_copy_2_22_13 s m args below meth c E 3 Q 0 0 23 [] [] b) : xW p l e rmX1_copy_2_22_13 s m args below meth c E 3 Q 0 0 2 [(0, .ref (E.2.2.1 22)), (1, .ref (E.2.2.1 13)), (2, .int a.1)] [] a.2 := by
  intro H locs cells slots ls hP hS hB hl
  have hx := hC.1
  have hb := hC.2.1
  have hown := hC.2.2.2.2.2.1
  have hts := hC.2.2.2.2.2.2.1
  unfold fX1_copy_2_22_13_B2 at hE
  refine lv_iload_n hx hb dX1_copy_2_2 rfl (lv_at hl 2 rfl) ?_
  refine lv_aload_n hx hb dX1_copy_2_3 rfl (lv_at hl 0 rfl) ?_
  refine x_olen hC hP xo_22 (v := 6) rfl dX1_copy_2_4 ?_
  refine lv_icmp_ge (tgt := 23) hx hb dX1_copy_2_5 (by decide) (fun c_1 => ?_) (fun c_1 => ?_)
  · have hE := ip c_1 hE
    exact hx1 _ (Option.some.inj hE).symm H locs cells slots ls hP hS hB (lv_sub hl [] rfl)
  · have hE := iq c_1 hE
    refine lv_aload_n hx hb dX1_copy_2_8 rfl (lv_at hl 0 rfl) ?_
    refine lv_iload_n hx hb dX1_copy_2_9 rfl (lv_at hl 2 rfl) ?_
    obtain ⟨c_2, hE⟩ := og hE
    refine x_aald hC hP xo_22 c_2 dX1_copy_2_10 ?_
    refine lv_aload_n hx hb dX1_copy_2_11 rfl (lv_at hl 1 rfl) ?_
    refine lv_iload_n hx hb dX1_copy_2_12 rfl (lv_at hl 2 rfl) ?_
    obtain ⟨c_3, hE⟩ := og hE
    refine x_aald hC hP xo_13 c_3 dX1_copy_2_13 ?_
    obtain ⟨z_4, ez_4, hE⟩ := on hE
    refine x_callS (rc1 := _) (rs1 := _) [.ref (E.2.2.1 (100 + a.1.toNatClampNeg)), .ref (E.2.2.1 (56 + a.1.toNatClampNeg))] hC hP hS hB hl.1 (wX1_copy (n := 3) (xrow xo_22 c_2) (xrow xo_13 c_3) (by decide) ez_4) (va_cwS 2 hts lkX1_56 rfl rfl rfl cdX1_copy ⟨Nat.le_of_ble_eq_true rfl, Nat.le_of_ble_eq_true rfl⟩) rfl rfl (lv_room (Nat.le_of_ble_eq_true rfl)) ⟨Nat.le_of_eq (Nat.zero_add _), Nat.le_of_eq (Nat.zero_add _)⟩ dX1_copy_2_14 (fun H locs cells slots hP hS hB => ?_)
    refine lv_iinc (v := (a.1 + (1 : Int32))) (lv' := [(2, .int (a.1 + (1 : Int32))), (0, .ref (E.2.2.1 22)), (1, .ref (E.2.2.1 13))]) hx hb dX1_copy_2_17 hl (k := 2) rfl rfl (Nat.le_of_ble_eq_true rfl) rfl (fun ls hl => ?_)
    refine lv_goto (tgt := 2) hx hb dX1_copy_2_20 (by decide) ?_
    exact hc _ (Option.some.inj hE).symm H locs cells slots ls hP hS hB (lv_sub hl [1, 2, 0] rfl)
noncomputable def fX1_copy_2_22_13 (k : Nat) (z : XS)  : Option XS := (lpo (fX1_copy_2_22_13_B2 k ) k ((0 : Int32), z)).bind fun x_5 => some x_5
set_option maxHeartbeats 1000000 in
theorem wX1_copy_2_22_13 {l : Launch} {E : XE} (k : Nat) (z : XS)  (y : XS) (hE : fX1_copy_2_22_13 k z  = some y) : xM l yX1_copy_2 (ws_ yX1_copy_2 cX1_copy_2 3 none) rmX1_copy_2_22_13 E z [.ref (E.2.2.1 22), .ref (E.2.2.1 13)] none y := by
  refine x_met (own := RX1) (by decide) rfl (Nat.le_of_ble_eq_true rfl) (fun p e s m args below meth c hC => ?_)
  intro H locs cells slots ls hP hS hB hl
  have hx := hC.1
  have hb := hC.2.1
  have hown := hC.2.2.2.2.2.1
  have hts := hC.2.2.2.2.2.2.1
  have hl : lv_has ls 3 [(0, .ref (E.2.2.1 22)), (1, .ref (E.2.2.1 13))] := hl
  unfold fX1_copy_2_22_13 at hE
  refine lv_iconst (v := 0) hx hb dX1_copy_2_0 (by decide) ?_
  refine lv_istore_n (lv' := [(2, .int (0 : Int32)), (0, .ref (E.2.2.1 22)), (1, .ref (E.2.2.1 13))]) hx hb dX1_copy_2_1 rfl hl (Nat.le_of_ble_eq_true rfl) rfl (fun ls hl => ?_)
  obtain ⟨x_5, h_5, hE⟩ := ob hE
  refine lpo_walk (fun p_5 : Int32 × XS => xW p l e rmX1_copy_2_22_13 s m args below meth c E 3 (xQ E rmX1_copy_2_22_13 below args s none y) 0 0 2 [(0, .ref (E.2.2.1 22)), (1, .ref (E.2.2.1 13)), (2, .int p_5.1)] [] p_5.2) (fun q_5 : XS => xW p l e rmX1_copy_2_22_13 s m args below meth c E 3 (xQ E rmX1_copy_2_22_13 below args s none y) 0 0 23 [] [] q_5) (fun a_5 y_5 hB_5 hc_5 hx_5 => wX1_copy_2_22_13_B2 k  hC a_5 y_5 hB_5 hc_5 hx_5) _ _ x_5 h_5 ?_ H locs cells slots ls hP hS hB (lv_sub hl [1, 2, 0] rfl)
  intro H locs cells slots ls hP hS hB hl
  obtain rfl := Option.some.inj hE
  exact x_vret hC hP hS hB dX1_copy_2_23
noncomputable def fX1_copy_2_23_14_B2 (k : Nat)  (a : Int32 × XS) : Option ((Int32 × XS) ⊕ XS) := if (8 : Int32) ≤ a.1 then (some (.inr a.2)) else (if ib a.1 8 then none else (if ib a.1 8 then none else (nm (xA a.2 (62 + a.1.toNatClampNeg) (va_cpy (a.2.2.1 (106 + a.1.toNatClampNeg)) (a.2.2.1 (62 + a.1.toNatClampNeg)) 0 0 3)) fun z_4 => some (.inl ((a.1 + (1 : Int32)), z_4)))))
set_option maxHeartbeats 1000000 in
theorem wX1_copy_2_23_14_B2 {p : Program} {l : Launch} {e : Env} {s : State} {m : MethodId} {args : Array Value} {below : List Frame} {meth : Method} {c : Code} {E : XE} {Q : State → Prop} (k : Nat)  (hC : xC E RX1 cX1_copy_2 3 none p s m args meth c) (a : Int32 × XS) (y : (Int32 × XS) ⊕ XS) (hE : fX1_copy_2_23_14_B2 k  a = some y) (hc : ∀ a : Int32 × XS, y = .inl a → xW p l e rmX1_copy_2_23_14 s m args below meth c E 3 Q 0 0 2 [(0, .ref (E.2.2.1 23)), (1, .ref (E.2.2.1 14)), (2, .int a.1)] [] a.2) (hx1 : ∀ b : XS, y = .inr b → xW p l e rmX1_copy_2_23_14 s m args below meth c E 3 Q 0 0 23 [] [] b) : xW p l e rmX1_copy_2_23_14 s m args below meth c E 3 Q 0 0 2 [(0, .ref (E.2.2.1 23)), (1, .ref (E.2.2.1 14)), (2, .int a.1)] [] a.2 := by
  intro H locs cells slots ls hP hS hB hl
  have hx := hC.1
  have hb := hC.2.1
  have hown := hC.2.2.2.2.2.1
  have hts := hC.2.2.2.2.2.2.1
  unfold fX1_copy_2_23_14_B2 at hE
  refine lv_iload_n hx hb dX1_copy_2_2 rfl (lv_at hl 2 rfl) ?_
  refine lv_aload_n hx hb dX1_copy_2_3 rfl (lv_at hl 0 rfl) ?_
  refine x_olen hC hP xo_23 (v := 8) rfl dX1_copy_2_4 ?_
  refine lv_icmp_ge (tgt := 23) hx hb dX1_copy_2_5 (by decide) (fun c_1 => ?_) (fun c_1 => ?_)
  · have hE := ip c_1 hE
    exact hx1 _ (Option.some.inj hE).symm H locs cells slots ls hP hS hB (lv_sub hl [] rfl)
  · have hE := iq c_1 hE
    refine lv_aload_n hx hb dX1_copy_2_8 rfl (lv_at hl 0 rfl) ?_
    refine lv_iload_n hx hb dX1_copy_2_9 rfl (lv_at hl 2 rfl) ?_
    obtain ⟨c_2, hE⟩ := og hE
    refine x_aald hC hP xo_23 c_2 dX1_copy_2_10 ?_
    refine lv_aload_n hx hb dX1_copy_2_11 rfl (lv_at hl 1 rfl) ?_
    refine lv_iload_n hx hb dX1_copy_2_12 rfl (lv_at hl 2 rfl) ?_
    obtain ⟨c_3, hE⟩ := og hE
    refine x_aald hC hP xo_14 c_3 dX1_copy_2_13 ?_
    obtain ⟨z_4, ez_4, hE⟩ := on hE
    refine x_callS (rc1 := _) (rs1 := _) [.ref (E.2.2.1 (106 + a.1.toNatClampNeg)), .ref (E.2.2.1 (62 + a.1.toNatClampNeg))] hC hP hS hB hl.1 (wX1_copy (n := 3) (xrow xo_23 c_2) (xrow xo_14 c_3) (by decide) ez_4) (va_cwS 2 hts lkX1_56 rfl rfl rfl cdX1_copy ⟨Nat.le_of_ble_eq_true rfl, Nat.le_of_ble_eq_true rfl⟩) rfl rfl (lv_room (Nat.le_of_ble_eq_true rfl)) ⟨Nat.le_of_eq (Nat.zero_add _), Nat.le_of_eq (Nat.zero_add _)⟩ dX1_copy_2_14 (fun H locs cells slots hP hS hB => ?_)
    refine lv_iinc (v := (a.1 + (1 : Int32))) (lv' := [(2, .int (a.1 + (1 : Int32))), (0, .ref (E.2.2.1 23)), (1, .ref (E.2.2.1 14))]) hx hb dX1_copy_2_17 hl (k := 2) rfl rfl (Nat.le_of_ble_eq_true rfl) rfl (fun ls hl => ?_)
    refine lv_goto (tgt := 2) hx hb dX1_copy_2_20 (by decide) ?_
    exact hc _ (Option.some.inj hE).symm H locs cells slots ls hP hS hB (lv_sub hl [1, 2, 0] rfl)
noncomputable def fX1_copy_2_23_14 (k : Nat) (z : XS)  : Option XS := (lpo (fX1_copy_2_23_14_B2 k ) k ((0 : Int32), z)).bind fun x_5 => some x_5
set_option maxHeartbeats 1000000 in
theorem wX1_copy_2_23_14 {l : Launch} {E : XE} (k : Nat) (z : XS)  (y : XS) (hE : fX1_copy_2_23_14 k z  = some y) : xM l yX1_copy_2 (ws_ yX1_copy_2 cX1_copy_2 3 none) rmX1_copy_2_23_14 E z [.ref (E.2.2.1 23), .ref (E.2.2.1 14)] none y := by
  refine x_met (own := RX1) (by decide) rfl (Nat.le_of_ble_eq_true rfl) (fun p e s m args below meth c hC => ?_)
  intro H locs cells slots ls hP hS hB hl
  have hx := hC.1
  have hb := hC.2.1
  have hown := hC.2.2.2.2.2.1
  have hts := hC.2.2.2.2.2.2.1
  have hl : lv_has ls 3 [(0, .ref (E.2.2.1 23)), (1, .ref (E.2.2.1 14))] := hl
  unfold fX1_copy_2_23_14 at hE
  refine lv_iconst (v := 0) hx hb dX1_copy_2_0 (by decide) ?_
  refine lv_istore_n (lv' := [(2, .int (0 : Int32)), (0, .ref (E.2.2.1 23)), (1, .ref (E.2.2.1 14))]) hx hb dX1_copy_2_1 rfl hl (Nat.le_of_ble_eq_true rfl) rfl (fun ls hl => ?_)
  obtain ⟨x_5, h_5, hE⟩ := ob hE
  refine lpo_walk (fun p_5 : Int32 × XS => xW p l e rmX1_copy_2_23_14 s m args below meth c E 3 (xQ E rmX1_copy_2_23_14 below args s none y) 0 0 2 [(0, .ref (E.2.2.1 23)), (1, .ref (E.2.2.1 14)), (2, .int p_5.1)] [] p_5.2) (fun q_5 : XS => xW p l e rmX1_copy_2_23_14 s m args below meth c E 3 (xQ E rmX1_copy_2_23_14 below args s none y) 0 0 23 [] [] q_5) (fun a_5 y_5 hB_5 hc_5 hx_5 => wX1_copy_2_23_14_B2 k  hC a_5 y_5 hB_5 hc_5 hx_5) _ _ x_5 h_5 ?_ H locs cells slots ls hP hS hB (lv_sub hl [1, 2, 0] rfl)
  intro H locs cells slots ls hP hS hB hl
  obtain rfl := Option.some.inj hE
  exact x_vret hC hP hS hB dX1_copy_2_23
noncomputable def fX1_copy_2_24_15_B2 (k : Nat)  (a : Int32 × XS) : Option ((Int32 × XS) ⊕ XS) := if (30 : Int32) ≤ a.1 then (some (.inr a.2)) else (if ib a.1 30 then none else (if ib a.1 30 then none else (nm (xA a.2 (70 + a.1.toNatClampNeg) (va_cpy (a.2.2.1 (114 + a.1.toNatClampNeg)) (a.2.2.1 (70 + a.1.toNatClampNeg)) 0 0 190)) fun z_4 => some (.inl ((a.1 + (1 : Int32)), z_4)))))
set_option maxHeartbeats 1000000 in
theorem wX1_copy_2_24_15_B2 {p : Program} {l : Launch} {e : Env} {s : State} {m : MethodId} {args : Array Value} {below : List Frame} {meth : Method} {c : Code} {E : XE} {Q : State → Prop} (k : Nat)  (hC : xC E RX1 cX1_copy_2 3 none p s m args meth c) (a : Int32 × XS) (y : (Int32 × XS) ⊕ XS) (hE : fX1_copy_2_24_15_B2 k  a = some y) (hc : ∀ a : Int32 × XS, y = .inl a → xW p l e rmX1_copy_2_24_15 s m args below meth c E 3 Q 0 0 2 [(0, .ref (E.2.2.1 24)), (1, .ref (E.2.2.1 15)), (2, .int a.1)] [] a.2) (hx1 : ∀ b : XS, y = .inr b → xW p l e rmX1_copy_2_24_15 s m args below meth c E 3 Q 0 0 23 [] [] b) : xW p l e rmX1_copy_2_24_15 s m args below meth c E 3 Q 0 0 2 [(0, .ref (E.2.2.1 24)), (1, .ref (E.2.2.1 15)), (2, .int a.1)] [] a.2 := by
  intro H locs cells slots ls hP hS hB hl
  have hx := hC.1
  have hb := hC.2.1
  have hown := hC.2.2.2.2.2.1
  have hts := hC.2.2.2.2.2.2.1
  unfold fX1_copy_2_24_15_B2 at hE
  refine lv_iload_n hx hb dX1_copy_2_2 rfl (lv_at hl 2 rfl) ?_
  refine lv_aload_n hx hb dX1_copy_2_3 rfl (lv_at hl 0 rfl) ?_
  refine x_olen hC hP xo_24 (v := 30) rfl dX1_copy_2_4 ?_
  refine lv_icmp_ge (tgt := 23) hx hb dX1_copy_2_5 (by decide) (fun c_1 => ?_) (fun c_1 => ?_)
  · have hE := ip c_1 hE
    exact hx1 _ (Option.some.inj hE).symm H locs cells slots ls hP hS hB (lv_sub hl [] rfl)
  · have hE := iq c_1 hE
    refine lv_aload_n hx hb dX1_copy_2_8 rfl (lv_at hl 0 rfl) ?_
    refine lv_iload_n hx hb dX1_copy_2_9 rfl (lv_at hl 2 rfl) ?_
    obtain ⟨c_2, hE⟩ := og hE
    refine x_aald hC hP xo_24 c_2 dX1_copy_2_10 ?_
    refine lv_aload_n hx hb dX1_copy_2_11 rfl (lv_at hl 1 rfl) ?_
    refine lv_iload_n hx hb dX1_copy_2_12 rfl (lv_at hl 2 rfl) ?_
    obtain ⟨c_3, hE⟩ := og hE
    refine x_aald hC hP xo_15 c_3 dX1_copy_2_13 ?_
    obtain ⟨z_4, ez_4, hE⟩ := on hE
    refine x_callS (rc1 := _) (rs1 := _) [.ref (E.2.2.1 (114 + a.1.toNatClampNeg)), .ref (E.2.2.1 (70 + a.1.toNatClampNeg))] hC hP hS hB hl.1 (wX1_copy (n := 190) (xrow xo_24 c_2) (xrow xo_15 c_3) (by decide) ez_4) (va_cwS 2 hts lkX1_56 rfl rfl rfl cdX1_copy ⟨Nat.le_of_ble_eq_true rfl, Nat.le_of_ble_eq_true rfl⟩) rfl rfl (lv_room (Nat.le_of_ble_eq_true rfl)) ⟨Nat.le_of_eq (Nat.zero_add _), Nat.le_of_eq (Nat.zero_add _)⟩ dX1_copy_2_14 (fun H locs cells slots hP hS hB => ?_)
    refine lv_iinc (v := (a.1 + (1 : Int32))) (lv' := [(2, .int (a.1 + (1 : Int32))), (0, .ref (E.2.2.1 24)), (1, .ref (E.2.2.1 15))]) hx hb dX1_copy_2_17 hl (k := 2) rfl rfl (Nat.le_of_ble_eq_true rfl) rfl (fun ls hl => ?_)
    refine lv_goto (tgt := 2) hx hb dX1_copy_2_20 (by decide) ?_
    exact hc _ (Option.some.inj hE).symm H locs cells slots ls hP hS hB (lv_sub hl [1, 2, 0] rfl)
noncomputable def fX1_copy_2_24_15 (k : Nat) (z : XS)  : Option XS := (lpo (fX1_copy_2_24_15_B2 k ) k ((0 : Int32), z)).bind fun x_5 => some x_5
set_option maxHeartbeats 1000000 in
theorem wX1_copy_2_24_15 {l : Launch} {E : XE} (k : Nat) (z : XS)  (y : XS) (hE : fX1_copy_2_24_15 k z  = some y) : xM l yX1_copy_2 (ws_ yX1_copy_2 cX1_copy_2 3 none) rmX1_copy_2_24_15 E z [.ref (E.2.2.1 24), .ref (E.2.2.1 15)] none y := by
  refine x_met (own := RX1) (by decide) rfl (Nat.le_of_ble_eq_true rfl) (fun p e s m args below meth c hC => ?_)
  intro H locs cells slots ls hP hS hB hl
  have hx := hC.1
  have hb := hC.2.1
  have hown := hC.2.2.2.2.2.1
  have hts := hC.2.2.2.2.2.2.1
  have hl : lv_has ls 3 [(0, .ref (E.2.2.1 24)), (1, .ref (E.2.2.1 15))] := hl
  unfold fX1_copy_2_24_15 at hE
  refine lv_iconst (v := 0) hx hb dX1_copy_2_0 (by decide) ?_
  refine lv_istore_n (lv' := [(2, .int (0 : Int32)), (0, .ref (E.2.2.1 24)), (1, .ref (E.2.2.1 15))]) hx hb dX1_copy_2_1 rfl hl (Nat.le_of_ble_eq_true rfl) rfl (fun ls hl => ?_)
  obtain ⟨x_5, h_5, hE⟩ := ob hE
  refine lpo_walk (fun p_5 : Int32 × XS => xW p l e rmX1_copy_2_24_15 s m args below meth c E 3 (xQ E rmX1_copy_2_24_15 below args s none y) 0 0 2 [(0, .ref (E.2.2.1 24)), (1, .ref (E.2.2.1 15)), (2, .int p_5.1)] [] p_5.2) (fun q_5 : XS => xW p l e rmX1_copy_2_24_15 s m args below meth c E 3 (xQ E rmX1_copy_2_24_15 below args s none y) 0 0 23 [] [] q_5) (fun a_5 y_5 hB_5 hc_5 hx_5 => wX1_copy_2_24_15_B2 k  hC a_5 y_5 hB_5 hc_5 hx_5) _ _ x_5 h_5 ?_ H locs cells slots ls hP hS hB (lv_sub hl [1, 2, 0] rfl)
  intro H locs cells slots ls hP hS hB hl
  obtain rfl := Option.some.inj hE
  exact x_vret hC hP hS hB dX1_copy_2_23
noncomputable def fX1_be_1_2 (k : Nat) (V : XV) (z : XS)  : Option XS := nm (xA z 8 (va_cpy (z.2.1 17) (z.2.1 8) 0 0 6)) fun z_1 => nm (xA z_1 9 (va_cpy (z_1.2.1 18) (z_1.2.1 9) 0 0 190)) fun z_2 => nm (xA z_2 10 (va_cpy (z_2.2.1 19) (z_2.2.1 10) 0 0 7)) fun z_3 => nm (xA z_3 11 (va_cpy (z_3.2.1 20) (z_3.2.1 11) 0 0 7)) fun z_4 => nm (xA z_4 12 (va_cpy (z_4.2.1 21) (z_4.2.1 12) 0 0 13)) fun z_5 => (fX1_copy_2_22_13 k z_5 ).bind fun r_6 => (fX1_copy_2_23_14 k r_6 ).bind fun r_7 => (fX1_copy_2_24_15 k r_7 ).bind fun r_8 => gdp (xTok V r_8 25) (nm (xT r_8 16 (va_cpy (r_8.2.2 25) (r_8.2.2 16) 0 0 4)) fun z_9 => some z_9)
set_option maxHeartbeats 1000000 in
theorem wX1_be_1_2 {l : Launch} {E : XE} (k : Nat) (z : XS)  (y : XS) (hE : fX1_be_1_2 k E.2.2.2.2.2 z  = some y) : xM l yX1_be (ws_ yX1_be cX1_be 2 none) rmX1_be_1_2 E z [.ref (E.2.2.1 1), .ref (E.2.2.1 2)] none y := by
  refine x_met (own := RX1) (by decide) rfl (Nat.le_of_ble_eq_true rfl) (fun p e s m args below meth c hC => ?_)
  intro H locs cells slots ls hP hS hB hl
  have hx := hC.1
  have hb := hC.2.1
  have hown := hC.2.2.2.2.2.1
  have hts := hC.2.2.2.2.2.2.1
  have hl : lv_has ls 2 [(0, .ref (E.2.2.1 1)), (1, .ref (E.2.2.1 2))] := hl
  unfold fX1_be_1_2 at hE
  refine lv_aload_n hx hb dX1_be_0 rfl (lv_at hl 1 rfl) ?_
  refine gS_9_2 hC hP dX1_be_1 ?_
  refine lv_aload_n hx hb dX1_be_4 rfl (lv_at hl 0 rfl) ?_
  refine gS_9_1 hC hP dX1_be_5 ?_
  obtain ⟨z_1, ez_1, hE⟩ := on hE
  refine x_callS (rc1 := _) (rs1 := _) [.ref (E.2.2.1 17), .ref (E.2.2.1 8)] hC hP hS hB hl.1 (wX1_copy (n := 6) (⟨by decide, rfl, rfl⟩ : xint 17 6) (⟨by decide, rfl, rfl⟩ : xint 8 6) (by decide) ez_1) (va_cwS 2 hts lkX1_56 rfl rfl rfl cdX1_copy ⟨Nat.le_of_ble_eq_true rfl, Nat.le_of_ble_eq_true rfl⟩) rfl rfl (lv_room (Nat.le_of_ble_eq_true rfl)) ⟨Nat.le_of_eq (Nat.zero_add _), Nat.le_of_eq (Nat.zero_add _)⟩ dX1_be_8 (fun H locs cells slots hP hS hB => ?_)
  refine lv_aload_n hx hb dX1_be_11 rfl (lv_at hl 1 rfl) ?_
  refine gS_15_2 hC hP dX1_be_12 ?_
  refine lv_aload_n hx hb dX1_be_15 rfl (lv_at hl 0 rfl) ?_
  refine gS_15_1 hC hP dX1_be_16 ?_
  obtain ⟨z_2, ez_2, hE⟩ := on hE
  refine x_callS (rc1 := _) (rs1 := _) [.ref (E.2.2.1 18), .ref (E.2.2.1 9)] hC hP hS hB hl.1 (wX1_copy (n := 190) (⟨by decide, rfl, rfl⟩ : xint 18 190) (⟨by decide, rfl, rfl⟩ : xint 9 190) (by decide) ez_2) (va_cwS 2 hts lkX1_56 rfl rfl rfl cdX1_copy ⟨Nat.le_of_ble_eq_true rfl, Nat.le_of_ble_eq_true rfl⟩) rfl rfl (lv_room (Nat.le_of_ble_eq_true rfl)) ⟨Nat.le_of_eq (Nat.zero_add _), Nat.le_of_eq (Nat.zero_add _)⟩ dX1_be_19 (fun H locs cells slots hP hS hB => ?_)
  refine lv_aload_n hx hb dX1_be_22 rfl (lv_at hl 1 rfl) ?_
  refine gS_18_2 hC hP dX1_be_23 ?_
  refine lv_aload_n hx hb dX1_be_26 rfl (lv_at hl 0 rfl) ?_
  refine gS_18_1 hC hP dX1_be_27 ?_
  obtain ⟨z_3, ez_3, hE⟩ := on hE
  refine x_callS (rc1 := _) (rs1 := _) [.ref (E.2.2.1 19), .ref (E.2.2.1 10)] hC hP hS hB hl.1 (wX1_copy (n := 7) (⟨by decide, rfl, rfl⟩ : xint 19 7) (⟨by decide, rfl, rfl⟩ : xint 10 7) (by decide) ez_3) (va_cwS 2 hts lkX1_56 rfl rfl rfl cdX1_copy ⟨Nat.le_of_ble_eq_true rfl, Nat.le_of_ble_eq_true rfl⟩) rfl rfl (lv_room (Nat.le_of_ble_eq_true rfl)) ⟨Nat.le_of_eq (Nat.zero_add _), Nat.le_of_eq (Nat.zero_add _)⟩ dX1_be_30 (fun H locs cells slots hP hS hB => ?_)
  refine lv_aload_n hx hb dX1_be_33 rfl (lv_at hl 1 rfl) ?_
  refine gS_21_2 hC hP dX1_be_34 ?_
  refine lv_aload_n hx hb dX1_be_37 rfl (lv_at hl 0 rfl) ?_
  refine gS_21_1 hC hP dX1_be_38 ?_
  obtain ⟨z_4, ez_4, hE⟩ := on hE
  refine x_callS (rc1 := _) (rs1 := _) [.ref (E.2.2.1 20), .ref (E.2.2.1 11)] hC hP hS hB hl.1 (wX1_copy (n := 7) (⟨by decide, rfl, rfl⟩ : xint 20 7) (⟨by decide, rfl, rfl⟩ : xint 11 7) (by decide) ez_4) (va_cwS 2 hts lkX1_56 rfl rfl rfl cdX1_copy ⟨Nat.le_of_ble_eq_true rfl, Nat.le_of_ble_eq_true rfl⟩) rfl rfl (lv_room (Nat.le_of_ble_eq_true rfl)) ⟨Nat.le_of_eq (Nat.zero_add _), Nat.le_of_eq (Nat.zero_add _)⟩ dX1_be_41 (fun H locs cells slots hP hS hB => ?_)
  refine lv_aload_n hx hb dX1_be_44 rfl (lv_at hl 1 rfl) ?_
  refine gS_24_2 hC hP dX1_be_45 ?_
  refine lv_aload_n hx hb dX1_be_48 rfl (lv_at hl 0 rfl) ?_
  refine gS_24_1 hC hP dX1_be_49 ?_
  obtain ⟨z_5, ez_5, hE⟩ := on hE
  refine x_callS (rc1 := _) (rs1 := _) [.ref (E.2.2.1 21), .ref (E.2.2.1 12)] hC hP hS hB hl.1 (wX1_copy (n := 13) (⟨by decide, rfl, rfl⟩ : xint 21 13) (⟨by decide, rfl, rfl⟩ : xint 12 13) (by decide) ez_5) (va_cwS 2 hts lkX1_56 rfl rfl rfl cdX1_copy ⟨Nat.le_of_ble_eq_true rfl, Nat.le_of_ble_eq_true rfl⟩) rfl rfl (lv_room (Nat.le_of_ble_eq_true rfl)) ⟨Nat.le_of_eq (Nat.zero_add _), Nat.le_of_eq (Nat.zero_add _)⟩ dX1_be_52 (fun H locs cells slots hP hS hB => ?_)
  refine lv_aload_n hx hb dX1_be_55 rfl (lv_at hl 1 rfl) ?_
  refine gS_29_2 hC hP dX1_be_56 ?_
  refine lv_aload_n hx hb dX1_be_59 rfl (lv_at hl 0 rfl) ?_
  refine gS_29_1 hC hP dX1_be_60 ?_
  obtain ⟨r_6, h_6, hE⟩ := ob hE
  refine x_callS (rc1 := _) (rs1 := _) [.ref (E.2.2.1 22), .ref (E.2.2.1 13)] hC hP hS hB hl.1 (wX1_copy_2_22_13 k z_5  r_6 h_6) (va_cwS 2 hts lkX1_60 rfl rfl rfl cdX1_copy_2 ⟨Nat.le_of_ble_eq_true rfl, Nat.le_of_ble_eq_true rfl⟩) rfl rfl (lv_room (Nat.le_of_ble_eq_true rfl)) ⟨Nat.le_of_eq (Nat.zero_add _), Nat.le_of_eq (Nat.zero_add _)⟩ dX1_be_63 (fun H locs cells slots hP hS hB => ?_)
  show W p l e _ s m args below meth c H locs cells slots _ (F0 m _ ls ([]))
  refine lv_aload_n hx hb dX1_be_66 rfl (lv_at hl 1 rfl) ?_
  refine gS_32_2 hC hP dX1_be_67 ?_
  refine lv_aload_n hx hb dX1_be_70 rfl (lv_at hl 0 rfl) ?_
  refine gS_32_1 hC hP dX1_be_71 ?_
  obtain ⟨r_7, h_7, hE⟩ := ob hE
  refine x_callS (rc1 := _) (rs1 := _) [.ref (E.2.2.1 23), .ref (E.2.2.1 14)] hC hP hS hB hl.1 (wX1_copy_2_23_14 k r_6  r_7 h_7) (va_cwS 2 hts lkX1_60 rfl rfl rfl cdX1_copy_2 ⟨Nat.le_of_ble_eq_true rfl, Nat.le_of_ble_eq_true rfl⟩) rfl rfl (lv_room (Nat.le_of_ble_eq_true rfl)) ⟨Nat.le_of_eq (Nat.zero_add _), Nat.le_of_eq (Nat.zero_add _)⟩ dX1_be_74 (fun H locs cells slots hP hS hB => ?_)
  show W p l e _ s m args below meth c H locs cells slots _ (F0 m _ ls ([]))
  refine lv_aload_n hx hb dX1_be_77 rfl (lv_at hl 1 rfl) ?_
  refine gS_35_2 hC hP dX1_be_78 ?_
  refine lv_aload_n hx hb dX1_be_81 rfl (lv_at hl 0 rfl) ?_
  refine gS_35_1 hC hP dX1_be_82 ?_
  obtain ⟨r_8, h_8, hE⟩ := ob hE
  refine x_callS (rc1 := _) (rs1 := _) [.ref (E.2.2.1 24), .ref (E.2.2.1 15)] hC hP hS hB hl.1 (wX1_copy_2_24_15 k r_7  r_8 h_8) (va_cwS 2 hts lkX1_60 rfl rfl rfl cdX1_copy_2 ⟨Nat.le_of_ble_eq_true rfl, Nat.le_of_ble_eq_true rfl⟩) rfl rfl (lv_room (Nat.le_of_ble_eq_true rfl)) ⟨Nat.le_of_eq (Nat.zero_add _), Nat.le_of_eq (Nat.zero_add _)⟩ dX1_be_85 (fun H locs cells slots hP hS hB => ?_)
  show W p l e _ s m args below meth c H locs cells slots _ (F0 m _ ls ([]))
  refine lv_aload_n hx hb dX1_be_88 rfl (lv_at hl 1 rfl) ?_
  refine gS_40_2 hC hP dX1_be_89 ?_
  refine lv_iconst (v := 0) hx hb dX1_be_92 (by decide) ?_
  refine lv_aload_n hx hb dX1_be_93 rfl (lv_at hl 0 rfl) ?_
  refine gS_40_1 hC hP dX1_be_94 ?_
  refine lv_iconst (v := 0) hx hb dX1_be_97 (by decide) ?_
  refine lv_iconst (v := 4) hx hb dX1_be_98 (by decide) ?_
  obtain ⟨g_9, hE⟩ := ogp hE
  obtain ⟨z_9, ez_9, hE⟩ := on hE
  refine x_tcopy hC hP hS hl.1 (k0 := 25) (k1 := 16) ⟨by decide, rfl⟩ ⟨by decide, rfl⟩ g_9 q226 ez_9 (Nat.le_of_ble_eq_true rfl) (by decide) dX1_be_99 (fun H locs hP hS => ?_)
  obtain rfl := Option.some.inj hE
  exact x_vret hC hP hS hB dX1_be_102
noncomputable def fX0_back (k : Nat) (V : XV) (z : XS)  : Option (Int32 × XS) := (fX1_be_1_2 k V z ).bind fun r_1 => some ((r_1.2.1 9 (0 : Int32).toNatClampNeg), r_1)
set_option maxHeartbeats 1000000 in
theorem wX0_back {l : Launch} {E : XE} (k : Nat) (z : XS)  (y : Int32 × XS) (hE : fX0_back k E.2.2.2.2.2 z  = some y) : xM l yX0_back (ws_ yX0_back cX0_back 1 (some .int)) rmX0_back E z [.ref (E.2.2.1 0)] (some (.int y.1)) y.2 := by
  refine x_met (own := RX0) (by decide) rfl (Nat.le_of_ble_eq_true rfl) (fun p e s m args below meth c hC => ?_)
  intro H locs cells slots ls hP hS hB hl
  have hx := hC.1
  have hb := hC.2.1
  have hown := hC.2.2.2.2.2.1
  have hts := hC.2.2.2.2.2.2.1
  have hl : lv_has ls 1 [(0, .ref (E.2.2.1 0))] := hl
  unfold fX0_back at hE
  refine lv_aload_n hx hb dX0_back_0 rfl (lv_at hl 0 rfl) ?_
  refine gX_21 hC hP dX0_back_1 ?_
  refine lv_aload_n hx hb dX0_back_4 rfl (lv_at hl 0 rfl) ?_
  refine gX_25 hC hP dX0_back_5 ?_
  obtain ⟨r_1, h_1, hE⟩ := ob hE
  refine x_callV (rc1 := _) (rs1 := _) [.ref (E.2.2.1 2)] (E.2.2.1 1) hC hP hS hB hl.1 (wX1_be_1_2 k z  r_1 h_1) (xC.c1 hC) (xw_get E _ (k := 1) (by decide)) (cwV 1 hts lkX0_54 rfl rfl rfl cdX1_be ⟨Nat.le_of_ble_eq_true rfl, Nat.le_of_ble_eq_true rfl⟩) rfl rfl (lv_room (Nat.le_of_ble_eq_true rfl)) ⟨Nat.le_of_eq (Nat.zero_add _), Nat.le_of_eq (Nat.zero_add _)⟩ dX0_back_8 (fun H locs cells slots hP hS hB => ?_)
  show W p l e _ s m args below meth c H locs cells slots _ (F0 m _ ls ([]))
  refine lv_aload_n hx hb dX0_back_11 rfl (lv_at hl 0 rfl) ?_
  refine gX_21 hC hP dX0_back_12 ?_
  refine gN_65_1 hC hP dX0_back_15 ?_
  refine lv_iconst (v := 0) hx hb dX0_back_18 (by decide) ?_
  refine x_iald hC hP (⟨by decide, rfl, rfl⟩ : xint 9 190) (i := (0 : Int32)) (by decide) dX0_back_19 ?_
  obtain rfl := Option.some.inj hE
  exact x_iret hC hP hS hB dX0_back_20
noncomputable def fX0_about (z : XS) (x1 : Int32) : Option Int32 := if x1 = (0 : Int32) then (some (z.2.1 8 (0 : Int32).toNatClampNeg)) else if x1 = (1 : Int32) then (some (z.2.1 8 (1 : Int32).toNatClampNeg)) else if x1 = (2 : Int32) then (some (z.2.1 8 (2 : Int32).toNatClampNeg)) else if x1 = (3 : Int32) then (some (z.2.1 8 (3 : Int32).toNatClampNeg)) else if x1 = (4 : Int32) then (some (z.2.1 8 (4 : Int32).toNatClampNeg)) else if x1 = (5 : Int32) then (some (z.2.1 8 (5 : Int32).toNatClampNeg)) else if x1 = (6 : Int32) then (some (z.1 3)) else (some (-2 : Int32))
set_option maxHeartbeats 1000000 in
theorem wX0_about {l : Launch} {E : XE} (z : XS) (x1 : Int32) (y : Int32) (hE : fX0_about z x1 = some y) : xM l yX0_about (ws_ yX0_about cX0_about 2 (some .int)) rmX0_about E z [.ref (E.2.2.1 0), .int x1] (some (.int y)) z := by
  refine x_met (own := RX0) (by decide) rfl (Nat.le_of_ble_eq_true rfl) (fun p e s m args below meth c hC => ?_)
  intro H locs cells slots ls hP hS hB hl
  have hx := hC.1
  have hb := hC.2.1
  have hown := hC.2.2.2.2.2.1
  have hts := hC.2.2.2.2.2.2.1
  have hl : lv_has ls 2 [(0, .ref (E.2.2.1 0)), (1, .int x1)] := hl
  unfold fX0_about at hE
  refine lv_iload_n hx hb dX0_about_0 rfl (lv_at hl 1 rfl) ?_
  by_cases c_1_0 : x1 = (0 : Int32)
  · have hE := ip c_1_0 hE
    refine lv_tableIn (tgt := 44) (off := 43) hx hb dX0_about_1 (by rw [c_1_0]; decide) (by rw [c_1_0]; decide) (by rw [c_1_0]; rfl) (by decide) ?_
    refine lv_aload_n hx hb dX0_about_44 rfl (lv_at hl 0 rfl) ?_
    refine gX_21 hC hP dX0_about_45 ?_
    refine gN_62_1 hC hP dX0_about_48 ?_
    refine lv_iconst (v := 0) hx hb dX0_about_51 (by decide) ?_
    refine x_iald hC hP (⟨by decide, rfl, rfl⟩ : xint 8 6) (i := (0 : Int32)) (by decide) dX0_about_52 ?_
    obtain rfl := Option.some.inj hE
    exact x_iret hC hP hS hB dX0_about_53
  have hE := iq c_1_0 hE
  by_cases c_1_1 : x1 = (1 : Int32)
  · have hE := ip c_1_1 hE
    refine lv_tableIn (tgt := 54) (off := 53) hx hb dX0_about_1 (by rw [c_1_1]; decide) (by rw [c_1_1]; decide) (by rw [c_1_1]; rfl) (by decide) ?_
    refine lv_aload_n hx hb dX0_about_54 rfl (lv_at hl 0 rfl) ?_
    refine gX_21 hC hP dX0_about_55 ?_
    refine gN_62_1 hC hP dX0_about_58 ?_
    refine lv_iconst (v := 1) hx hb dX0_about_61 (by decide) ?_
    refine x_iald hC hP (⟨by decide, rfl, rfl⟩ : xint 8 6) (i := (1 : Int32)) (by decide) dX0_about_62 ?_
    obtain rfl := Option.some.inj hE
    exact x_iret hC hP hS hB dX0_about_63
  have hE := iq c_1_1 hE
  by_cases c_1_2 : x1 = (2 : Int32)
  · have hE := ip c_1_2 hE
    refine lv_tableIn (tgt := 64) (off := 63) hx hb dX0_about_1 (by rw [c_1_2]; decide) (by rw [c_1_2]; decide) (by rw [c_1_2]; rfl) (by decide) ?_
    refine lv_aload_n hx hb dX0_about_64 rfl (lv_at hl 0 rfl) ?_
    refine gX_21 hC hP dX0_about_65 ?_
    refine gN_62_1 hC hP dX0_about_68 ?_
    refine lv_iconst (v := 2) hx hb dX0_about_71 (by decide) ?_
    refine x_iald hC hP (⟨by decide, rfl, rfl⟩ : xint 8 6) (i := (2 : Int32)) (by decide) dX0_about_72 ?_
    obtain rfl := Option.some.inj hE
    exact x_iret hC hP hS hB dX0_about_73
  have hE := iq c_1_2 hE
  by_cases c_1_3 : x1 = (3 : Int32)
  · have hE := ip c_1_3 hE
    refine lv_tableIn (tgt := 74) (off := 73) hx hb dX0_about_1 (by rw [c_1_3]; decide) (by rw [c_1_3]; decide) (by rw [c_1_3]; rfl) (by decide) ?_
    refine lv_aload_n hx hb dX0_about_74 rfl (lv_at hl 0 rfl) ?_
    refine gX_21 hC hP dX0_about_75 ?_
    refine gN_62_1 hC hP dX0_about_78 ?_
    refine lv_iconst (v := 3) hx hb dX0_about_81 (by decide) ?_
    refine x_iald hC hP (⟨by decide, rfl, rfl⟩ : xint 8 6) (i := (3 : Int32)) (by decide) dX0_about_82 ?_
    obtain rfl := Option.some.inj hE
    exact x_iret hC hP hS hB dX0_about_83
  have hE := iq c_1_3 hE
  by_cases c_1_4 : x1 = (4 : Int32)
  · have hE := ip c_1_4 hE
    refine lv_tableIn (tgt := 84) (off := 83) hx hb dX0_about_1 (by rw [c_1_4]; decide) (by rw [c_1_4]; decide) (by rw [c_1_4]; rfl) (by decide) ?_
    refine lv_aload_n hx hb dX0_about_84 rfl (lv_at hl 0 rfl) ?_
    refine gX_21 hC hP dX0_about_85 ?_
    refine gN_62_1 hC hP dX0_about_88 ?_
    refine lv_iconst (v := 4) hx hb dX0_about_91 (by decide) ?_
    refine x_iald hC hP (⟨by decide, rfl, rfl⟩ : xint 8 6) (i := (4 : Int32)) (by decide) dX0_about_92 ?_
    obtain rfl := Option.some.inj hE
    exact x_iret hC hP hS hB dX0_about_93
  have hE := iq c_1_4 hE
  by_cases c_1_5 : x1 = (5 : Int32)
  · have hE := ip c_1_5 hE
    refine lv_tableIn (tgt := 94) (off := 93) hx hb dX0_about_1 (by rw [c_1_5]; decide) (by rw [c_1_5]; decide) (by rw [c_1_5]; rfl) (by decide) ?_
    refine lv_aload_n hx hb dX0_about_94 rfl (lv_at hl 0 rfl) ?_
    refine gX_21 hC hP dX0_about_95 ?_
    refine gN_62_1 hC hP dX0_about_98 ?_
    refine lv_iconst (v := 5) hx hb dX0_about_101 (by decide) ?_
    refine x_iald hC hP (⟨by decide, rfl, rfl⟩ : xint 8 6) (i := (5 : Int32)) (by decide) dX0_about_102 ?_
    obtain rfl := Option.some.inj hE
    exact x_iret hC hP hS hB dX0_about_103
  have hE := iq c_1_5 hE
  by_cases c_1_6 : x1 = (6 : Int32)
  · have hE := ip c_1_6 hE
    refine lv_tableIn (tgt := 104) (off := 103) hx hb dX0_about_1 (by rw [c_1_6]; decide) (by rw [c_1_6]; decide) (by rw [c_1_6]; rfl) (by decide) ?_
    refine lv_aload_n hx hb dX0_about_104 rfl (lv_at hl 0 rfl) ?_
    refine gX_82 hC hP dX0_about_105 ?_
    obtain rfl := Option.some.inj hE
    exact x_iret hC hP hS hB dX0_about_108
  have hE := iq c_1_6 hE
  refine m_tdef (tgt := 109) hx hb dX0_about_1 (by decide) (fun h1 h2 => ?_) ?_
  · have h3 : x1.toInt = 0 ∨ x1.toInt = 1 ∨ x1.toInt = 2 ∨ x1.toInt = 3 ∨ x1.toInt = 4 ∨ x1.toInt = 5 ∨ x1.toInt = 6 := by omega
    rcases h3 with h3 | h3 | h3 | h3 | h3 | h3 | h3
    · exact absurd (Int32.toInt_inj.mp (by rw [h3]; decide)) c_1_0
    · exact absurd (Int32.toInt_inj.mp (by rw [h3]; decide)) c_1_1
    · exact absurd (Int32.toInt_inj.mp (by rw [h3]; decide)) c_1_2
    · exact absurd (Int32.toInt_inj.mp (by rw [h3]; decide)) c_1_3
    · exact absurd (Int32.toInt_inj.mp (by rw [h3]; decide)) c_1_4
    · exact absurd (Int32.toInt_inj.mp (by rw [h3]; decide)) c_1_5
    · exact absurd (Int32.toInt_inj.mp (by rw [h3]; decide)) c_1_6
  refine lv_bipush (v := -2) hx hb dX0_about_109 (by decide) ?_
  obtain rfl := Option.some.inj hE
  exact x_iret hC hP hS hB dX0_about_111
