/-! what the nodes say, as total functions -/
set_option maxRecDepth 100000
def uOf (o : Option Int64) : Int64 := o.getD 0
theorem uOf_eq {o : Option Int64} (h : o ≠ none) : o = some (uOf o) := by
  cases o with
  | none => exact absurd rfl h
  | some v => rfl
theorem fX12_tot (c1 c2 : Int64) : fX12_of c1 c2 ≠ none := by
  unfold fX12_of
  split
  · rename_i h
    have h0 : ¬ c2 = 0 := by
      intro h9
      subst h9
      exact absurd h (by decide)
    rw [if_neg h0, if_neg h0]
    exact Option.some_ne_none _
  · exact Option.some_ne_none _
theorem fX11_tot (c1 : Int32) (c2 c3 : Int64) : fX11_of c1 c2 c3 ≠ none := by
  unfold fX11_of
  split <;> exact Option.some_ne_none _
theorem fX8_tot (c1 : Int32) : fX8_is c1 ≠ none := by
  unfold fX8_is
  split <;> exact Option.some_ne_none _
theorem fX9_tot (n : Int32) (c1 c2 : Int64) : fX9_is n c1 c2 ≠ none := by
  unfold fX9_is
  split
  · split <;> exact Option.some_ne_none _
  · split
    · split <;> exact Option.some_ne_none _
    · split
      · split <;> exact Option.some_ne_none _
      · split
        · split <;> exact Option.some_ne_none _
        · split
          · split <;> exact Option.some_ne_none _
          · split <;> exact Option.some_ne_none _
theorem fX10_tot (an : Int32) (cs : Nat → Int32) (n : Nat) (hn : n < 2 ^ 31) : fX10_is (n + 1) an (nI n) cs ≠ none := by
  have loop : ∀ (j k : Nat) (s : Int32), j + k = n → ∃ r, lpo (fX10_is_B4 (n + 1) an (nI n) cs) (j + 1) (s, nI k) = some r := by
    intro j
    induction j with
    | zero =>
      intro k s hk
      refine ⟨s, ?_⟩
      rw [lpo]
      unfold fX10_is_B4
      rw [if_pos (show nI n ≤ nI k from nI_le (by omega) (by omega))]
      rfl
    | succ j ih =>
      intro k s hk
      rw [lpo]
      unfold fX10_is_B4
      rw [if_neg (show ¬ nI n ≤ nI k from nI_ge (by omega) (by omega)), if_neg (show ¬ (nI k < 0 ∨ nI n ≤ nI k) from fun h => by
        rcases h with h | h
        · exact nI_pos (by omega) h
        · exact nI_ge (by omega) (by omega) h)]
      split
      · obtain ⟨r, hr⟩ := ih (k + 1) (s + 0) (by omega)
        refine ⟨r, ?_⟩
        rw [← hr, nI_succ]
        rfl
      · obtain ⟨r, hr⟩ := ih (k + 1) (s + 1) (by omega)
        refine ⟨r, ?_⟩
        rw [← hr, nI_succ]
        rfl
  unfold fX10_is
  obtain ⟨r, hr⟩ := loop n 0 0 (by omega)
  have e0 : nI 0 = 0 := rfl
  rw [e0] at hr
  rw [hr]
  show (if an = 0 then _ else _) ≠ none
  split
  · split <;> exact Option.some_ne_none _
  · split <;> exact Option.some_ne_none _
theorem fX6_tot (c1 : Int64) (cs : Nat → Int64) (ss : Nat → Int32) (n : Nat) (hn : n < 2 ^ 31) : fX6_of (n + 1) c1 (nI n) cs ss ≠ none := by
  have loop : ∀ (j k : Nat) (s : Int64), j + k = n → ∃ r, lpo (fX6_of_B14 (n + 1) c1 (nI n) cs ss) (j + 1) (s, nI k) = some r := by
    intro j
    induction j with
    | zero =>
      intro k s hk
      refine ⟨s, ?_⟩
      rw [lpo]
      unfold fX6_of_B14
      rw [if_pos (show nI n ≤ nI k from nI_le (by omega) (by omega))]
      rfl
    | succ j ih =>
      intro k s hk
      have hno : ¬ (nI k < 0 ∨ nI n ≤ nI k) := fun h => by
        rcases h with h | h
        · exact nI_pos (by omega) h
        · exact nI_ge (by omega) (by omega) h
      have step : ∀ t0 : Int64, ∃ r, ((fX6_of_J120 (n + 1) c1 (nI n) cs ss (nI k) t0).bind fun z => match z with | .inl a' => lpo (fX6_of_B14 (n + 1) c1 (nI n) cs ss) (j + 1) a' | .inr b => some b) = some r := by
        intro t0
        obtain ⟨r, hr⟩ := ih (k + 1) (if (if t0 < (1000000 : Int64) then t0 else (1000000 : Int64)) < (-1000000 : Int64) then (-1000000 : Int64) else (if t0 < (1000000 : Int64) then t0 else (1000000 : Int64))) (by omega)
        refine ⟨r, ?_⟩
        rw [← hr, nI_succ]
        rfl
      rw [lpo]
      unfold fX6_of_B14
      rw [if_neg (show ¬ nI n ≤ nI k from nI_ge (by omega) (by omega)), if_neg hno, if_neg hno]
      split
      · exact step _
      · split
        · exact step _
        · split
          · exact step _
          · split
            · exact step _
            · split
              · rename_i h1 h2
                rw [h2] at h1
                exact absurd (by decide) h1
              · exact step _
  unfold fX6_of
  obtain ⟨r, hr⟩ := loop n 0 c1 (by omega)
  have e0 : nI 0 = 0 := rfl
  rw [e0] at hr
  rw [hr]
  exact Option.some_ne_none _
theorem fX14_tot (c1 : Int64) (g : Nat → Int32) : fX14_of c1 g ≠ none := by
  unfold fX14_of
  split
  · exact Option.some_ne_none _
  · rename_i h1
    split
    · rename_i h2
      have h3 : ¬ c1 < 0 := fun h => h1 (lc_lt.mpr h)
      have h4 : c1 < 30 := lc_lt.mp h2
      have g1 := Int64.le_iff_toInt_le.mp (Int64.not_lt.mp h3)
      have g2 := Int64.lt_iff_toInt_lt.mp h4
      have e0 : (0 : Int64).toInt = 0 := rfl
      have e30 : (30 : Int64).toInt = 30 := rfl
      rw [e0] at g1
      rw [e30] at g2
      have e1 : c1.toInt32 = nI c1.toInt.toNat := by
        apply Int32.toInt_inj.mp
        rw [nI_toInt (by omega), Int64.toInt_toInt32]
        rw [Int.bmod_eq_of_le (by omega) (by omega)]
        omega
      rw [e1]
      have e2 : (8 : Int32) + nI c1.toInt.toNat = nI (8 + c1.toInt.toNat) := nI_add 8 _
      rw [e2, if_neg (nI_in (by omega) (by omega))]
      exact Option.some_ne_none _
    · exact Option.some_ne_none _
