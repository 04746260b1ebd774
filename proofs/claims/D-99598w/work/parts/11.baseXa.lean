/-! THE WORLD of RailingsCount (X): its cells, by number: 0 X, 1 now, 2 image, 3 tape, 4 names, 5 tried, 6 meets, 7 costs (rows 26..55), now 8..16 (n row stride luck value telling said step text; rows telling 56..61, said 62..69, step 70..99), image 17..25 (rows 100..105, 106..113, 114..143) -/
set_option maxRecDepth 100000
abbrev SemF : Type := (Nat → Int32) → Int64
/-- what a text says: its two laws, its doings (word, numbers, clause) -/
abbrev TV : Type := Option SemF × Option SemF × List (Int32 × Int32 × Int32 × Int32)
/-- texts: what the text at an address says; where NOTHING lies; which addresses are texts -/
abbrev XV : Type := (Nat → TV) × Nat × (Nat → Prop)
abbrev XS : Type := (Nat → Int32) × (Nat → Nat → Int32) × (Nat → Nat → Option Nat)
def xI (z : XS) (k : Nat) (v : Int32) : XS := (va_up z.1 k v, z.2)
def xA (z : XS) (k : Nat) (f : Nat → Int32) : XS := (z.1, va_up z.2.1 k f, z.2.2)
def xT (z : XS) (k : Nat) (f : Nat → Option Nat) : XS := (z.1, z.2.1, va_up z.2.2 k f)
/-- where X lies: classes' numbers, classes, addresses, array classes (0 int, 1 byte, 2 int[], 3 Text, 4 Sum, 5 Object), the cells of texts, the texts -/
abbrev XE : Type := va_G × List vw_C × (Nat → Nat) × (Nat → ClassId) × (Nat → Prop) × XV
def xfs (ad : Nat → Nat) (z : XS) : List Value := [.ref (ad 1), .ref (ad 2), .ref (ad 3), .int (z.1 3), .int (z.1 4), .int (z.1 5), .ref (ad 4), .ref (ad 5), .ref (ad 6), .int (z.1 9), .ref (ad 7)]
def xss (ad : Nat → Nat) (b : Nat) : List Value := [.ref (ad b), .ref (ad (b + 1)), .ref (ad (b + 2)), .ref (ad (b + 3)), .ref (ad (b + 4)), .ref (ad (b + 5)), .ref (ad (b + 6)), .ref (ad (b + 7)), .ref (ad (b + 8))]
def xlen (k : Nat) : Nat := if k < 26 then [0, 0, 0, 300, 38, 190, 60, 30, 6, 190, 7, 7, 13, 6, 8, 30, 4, 6, 190, 7, 7, 13, 6, 8, 30, 4].getD k 0 else if k < 56 then 30 else if k < 70 then 3 else if k < 100 then 190 else if k < 114 then 3 else 190
def xkind (k : Nat) : Nat := if k < 26 then [0, 0, 0, 2, 1, 1, 1, 3, 1, 1, 1, 1, 1, 3, 3, 3, 4, 1, 1, 1, 1, 1, 3, 3, 3, 4].getD k 0 else 1
def xbase (k : Nat) : Nat := [0, 0, 0, 0, 0, 0, 0, 26, 0, 0, 0, 0, 0, 56, 62, 70, 0, 0, 0, 0, 0, 0, 100, 106, 114, 0].getD k 0
def xcont (E : XE) (z : XS) (k : Nat) : va_E :=
  if k = 0 then .inr (0, xfs E.2.2.1 z) else if k = 1 then .inr (1, xss E.2.2.1 8) else if k = 2 then .inr (1, xss E.2.2.1 17)
  else if xkind k = 3 then .inl (E.2.2.2.1 2, xlen k, .inr (.inr (.inr (.inr (fun i => some (E.2.2.1 (xbase k + i)))))))
  else if xkind k = 4 then .inl (E.2.2.2.1 3, 4, .inr (.inr (.inr (.inr (z.2.2 k)))))
  else if k = 3 then .inl (E.2.2.2.1 1, 300, .inl (z.2.1 3)) else .inl (E.2.2.2.1 0, xlen k, .inl (z.2.1 k))
def xw (E : XE) (z : XS) : va_W := (List.range 144).map (fun k => (E.2.2.1 k, xcont E z k))
def xtys (E : XE) : List (ClassId × FieldType) := [(E.2.2.2.1 0, .int), (E.2.2.2.1 1, .byte), (E.2.2.2.1 2, .array .int), (E.2.2.2.1 3, .object "RailingsCount$Text"), (E.2.2.2.1 4, .object "RailingsCount$Sum"), (E.2.2.2.1 5, .object "java/lang/Object")]
def xF (E : XE) (sz : Nat) : Nat → Prop := fun q => (∃ k, k < 144 ∧ q = E.2.2.1 k) ∨ sz ≤ q
def xInj (E : XE) : Prop := ∀ i j, i < 144 → j < 144 → E.2.2.1 i = E.2.2.1 j → i = j
theorem xw_get (E : XE) (z : XS) {k : Nat} (h : k < 144) : (xw E z)[k]? = some (E.2.2.1 k, xcont E z k) := by
  unfold xw
  rw [List.getElem?_map, List.getElem?_range h]
  rfl
theorem xw_at (E : XE) (z : XS) (k : Nat) (q : Nat × va_E) (h : (xw E z)[k]? = some q) : k < 144 ∧ q.1 = E.2.2.1 k := by
  have hk : k < 144 := by
    have h1 := (List.getElem?_eq_some_iff.mp h).1
    unfold xw at h1
    rwa [List.length_map, List.length_range] at h1
  rw [xw_get E z hk] at h
  exact ⟨hk, by rw [← Option.some.inj h]⟩
theorem xw_set (E : XE) (z z1 : XS) {k : Nat} (h : k < 144) (e : va_E) (h1 : xcont E z1 k = e) (h2 : ∀ j, j ≠ k → xcont E z1 j = xcont E z j) : (xw E z).set k (E.2.2.1 k, e) = xw E z1 := by
  apply List.ext_getElem?
  intro j
  rw [List.getElem?_set]
  by_cases hj : k = j
  · subst hj
    have hl : k < (xw E z).length := by unfold xw; rw [List.length_map, List.length_range]; exact h
    rw [if_pos rfl, if_pos hl, xw_get E z1 h, h1]
  · rw [if_neg hj]
    unfold xw
    rw [List.getElem?_map, List.getElem?_map]
    cases hr : (List.range 144)[j]? with
    | none => rfl
    | some i =>
      have hi : i = j := by
        rw [List.getElem?_range ((List.getElem?_eq_some_iff.mp hr).1 |> fun q => by rwa [List.length_range] at q)] at hr
        exact (Option.some.inj hr).symm
      subst hi
      show some (E.2.2.1 i, xcont E z i) = some (E.2.2.1 i, xcont E z1 i)
      rw [h2 i (fun q => hj q.symm)]
theorem xw_D (E : XE) (z : XS) (sz : Nat) (hi : xInj E) : va_D (xF E sz) (xw E z) := by
  refine ⟨fun i j p q hp hq e => ?_, fun k q hq => ?_⟩
  · obtain ⟨h1, h2⟩ := xw_at E z i p hp
    obtain ⟨h3, h4⟩ := xw_at E z j q hq
    exact hi i j h1 h3 (by rw [← h2, ← h4, e])
  · obtain ⟨h1, h2⟩ := xw_at E z k q hq
    exact Or.inl ⟨k, h1, h2⟩
theorem xF_mono {E : XE} {a b : Nat} (h : a ≤ b) : ∀ q, xF E b q → xF E a q := by
  intro q hq
  rcases hq with hq | hq
  · exact Or.inl hq
  · exact Or.inr (Nat.le_trans h hq)
/-- an int array of n places -/
abbrev xint (k n : Nat) : Prop := k < 144 ∧ xkind k = 1 ∧ xlen k = n
/-- an array of n int arrays, the first of them cell b, each of w places -/
def xout (k b n w : Nat) : Prop := k < 144 ∧ xkind k = 3 ∧ xbase k = b ∧ xlen k = n ∧ ∀ i, i < n → xint (b + i) w
theorem xcont_int {k n : Nat} (h : xint k n) (E : XE) (z : XS) : xcont E z k = .inl (E.2.2.2.1 0, n, .inl (z.2.1 k)) := by
  obtain ⟨h1, h2, h3⟩ := h
  have a0 : k ≠ 0 := fun e => by subst e; exact absurd h2 (by decide)
  have a1 : k ≠ 1 := fun e => by subst e; exact absurd h2 (by decide)
  have a2 : k ≠ 2 := fun e => by subst e; exact absurd h2 (by decide)
  have a3 : k ≠ 3 := fun e => by subst e; exact absurd h2 (by decide)
  unfold xcont
  rw [if_neg a0, if_neg a1, if_neg a2, if_neg (by rw [h2]; decide), if_neg (by rw [h2]; decide), if_neg a3, h3]
theorem xcont_out {k b n w : Nat} (h : xout k b n w) (E : XE) (z : XS) : xcont E z k = .inl (E.2.2.2.1 2, n, .inr (.inr (.inr (.inr (fun i => some (E.2.2.1 (b + i))))))) := by
  obtain ⟨h1, h2, h3, h4, h5⟩ := h
  have a0 : k ≠ 0 := fun e => by subst e; exact absurd h2 (by decide)
  have a1 : k ≠ 1 := fun e => by subst e; exact absurd h2 (by decide)
  have a2 : k ≠ 2 := fun e => by subst e; exact absurd h2 (by decide)
  unfold xcont
  rw [if_neg a0, if_neg a1, if_neg a2, if_pos h2, h3, h4]
theorem xcont_A (E : XE) (z : XS) (k : Nat) (f : Nat → Int32) (j : Nat) (hj : j ≠ k) : xcont E (xA z k f) j = xcont E z j := by
  unfold xcont xA
  by_cases h3 : (3 : Nat) = k
  · have h33 : j ≠ 3 := fun e => hj (e.trans h3)
    simp only [va_up, if_neg hj, if_neg h33]
    rfl
  · simp only [va_up, if_neg hj, if_neg h3]
    rfl
theorem xcont_I (E : XE) (z : XS) (k : Nat) (v : Int32) (j : Nat) (hj : j ≠ 0) : xcont E (xI z k v) j = xcont E z j := by
  unfold xcont xI
  simp only [if_neg hj]
theorem xcont_T (E : XE) (z : XS) (k : Nat) (f : Nat → Option Nat) (j : Nat) (hj : j ≠ k) : xcont E (xT z k f) j = xcont E z j := by
  unfold xcont xT
  simp only [va_up, if_neg hj]
  rfl
theorem xrow_7 {i : Int32} (h : ¬ ib i 30) : xint (26 + i.toNatClampNeg) 30 := by
  have h1 : i.toNatClampNeg < 30 := Nat.not_le.mp fun q => h (Or.inr q)
  refine ⟨by omega, ?_, ?_⟩
  · unfold xkind; rw [if_neg (by omega)]
  · unfold xlen; rw [if_neg (by omega), if_pos (by omega)]
theorem xrow_13 {i : Int32} (h : ¬ ib i 6) : xint (56 + i.toNatClampNeg) 3 := by
  have h1 : i.toNatClampNeg < 6 := Nat.not_le.mp fun q => h (Or.inr q)
  refine ⟨by omega, ?_, ?_⟩
  · unfold xkind; rw [if_neg (by omega)]
  · unfold xlen; rw [if_neg (by omega), if_neg (by omega), if_pos (by omega)]
theorem xrow_14 {i : Int32} (h : ¬ ib i 8) : xint (62 + i.toNatClampNeg) 3 := by
  have h1 : i.toNatClampNeg < 8 := Nat.not_le.mp fun q => h (Or.inr q)
  refine ⟨by omega, ?_, ?_⟩
  · unfold xkind; rw [if_neg (by omega)]
  · unfold xlen; rw [if_neg (by omega), if_neg (by omega), if_pos (by omega)]
theorem xrow_15 {i : Int32} (h : ¬ ib i 30) : xint (70 + i.toNatClampNeg) 190 := by
  have h1 : i.toNatClampNeg < 30 := Nat.not_le.mp fun q => h (Or.inr q)
  refine ⟨by omega, ?_, ?_⟩
  · unfold xkind; rw [if_neg (by omega)]
  · unfold xlen; rw [if_neg (by omega), if_neg (by omega), if_neg (by omega), if_pos (by omega)]
