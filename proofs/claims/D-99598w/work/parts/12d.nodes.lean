set_option maxRecDepth 100000
def fX7_of (n : Int32) : Option Int64 := some n.toInt64
def fX13_of (n : Int32) (f : Nat → Int32) : Option Int64 := if ib n 38 then none else (some (f n.toNatClampNeg).toInt64)
def fX15_of (c1 : Int64) : Option Int64 := some (-c1)
def fX14_of (c1 : Int64) (f : Nat → Int32) : Option Int64 := if (lg_cmp c1 (0 : Int64)) < 0 then (some (0 : Int64)) else (if (lg_cmp c1 (30 : Int64)) < 0 then (if ib ((8 : Int32) + c1.toInt32) 38 then none else (some (f ((8 : Int32) + c1.toInt32).toNatClampNeg).toInt64)) else (some (0 : Int64)))
def fX12_of (c1 : Int64) (c2 : Int64) : Option Int64 := if 0 < (lg_cmp c2 (0 : Int64)) then (if c2 = (0 : Int64) then none else if c2 = (0 : Int64) then none else some (((c1 - c1 / c2 * c2) + c2) - ((c1 - c1 / c2 * c2) + c2) / c2 * c2)) else (some (0 : Int64))
def fX11_of (c1 : Int32) (c2 : Int64) (c3 : Int64) : Option Int64 := if c1 = 0 then (some c3) else (some c2)
def fX6_of_J120 (k : Nat) (c1 : Int64) (n : Int32) (cs : Nat → Int64) (ss : Nat → Int32) (x4 : Int32) (t0 : Int64) : Option ((Int64 × Int32) ⊕ Int64) := nm (if (if t0 < (1000000 : Int64) then t0 else (1000000 : Int64)) < (-1000000 : Int64) then (-1000000 : Int64) else (if t0 < (1000000 : Int64) then t0 else (1000000 : Int64))) fun v_9 => some (.inl (v_9, (x4 + (1 : Int32))))
def fX6_of_B14 (k : Nat) (c1 : Int64) (n : Int32) (cs : Nat → Int64) (ss : Nat → Int32)  (a : Int64 × Int32) : Option ((Int64 × Int32) ⊕ Int64) := if n ≤ a.2 then (some (.inr a.1)) else (if (a.2 < 0 ∨ n ≤ a.2) then none else (if (a.2 < 0 ∨ n ≤ a.2) then none else (if (ss a.2.toNatClampNeg) = (43 : Int32) then ((fX6_of_J120 k c1 n cs ss a.2 (a.1 + (cs a.2.toNatClampNeg)))) else (if (ss a.2.toNatClampNeg) = (45 : Int32) then ((fX6_of_J120 k c1 n cs ss a.2 (a.1 - (cs a.2.toNatClampNeg)))) else (if (ss a.2.toNatClampNeg) = (42 : Int32) then ((fX6_of_J120 k c1 n cs ss a.2 (a.1 * (cs a.2.toNatClampNeg)))) else (if (lg_cmp (cs a.2.toNatClampNeg) (0 : Int64)) = 0 then ((fX6_of_J120 k c1 n cs ss a.2 (0 : Int64))) else (if (cs a.2.toNatClampNeg) = (0 : Int64) then none else (fX6_of_J120 k c1 n cs ss a.2 (a.1 / (cs a.2.toNatClampNeg))))))))))
def fX6_of (k : Nat) (c1 : Int64) (n : Int32) (cs : Nat → Int64) (ss : Nat → Int32) : Option Int64 := (lpo (fX6_of_B14 k c1 n cs ss ) k (c1, (0 : Int32))).bind fun x_10 => some x_10
def fX9_is (n : Int32) (c1 : Int64) (c2 : Int64) : Option Int32 := if n = (35 : Int32) then (if (lg_cmp (c1 - c2) (0 : Int64)) = 0 then (some (0 : Int32)) else (some (1 : Int32))) else if n = (60 : Int32) then (if 0 ≤ (lg_cmp (c1 - c2) (0 : Int64)) then (some (0 : Int32)) else (some (1 : Int32))) else if n = (61 : Int32) then (if (lg_cmp (c1 - c2) (0 : Int64)) = 0 then (some (1 : Int32)) else (some (0 : Int32))) else if n = (62 : Int32) then (if (lg_cmp (c1 - c2) (0 : Int64)) ≤ 0 then (some (0 : Int32)) else (some (1 : Int32))) else if n = (303 : Int32) then (if 0 < (lg_cmp (c1 - c2) (0 : Int64)) then (some (0 : Int32)) else (some (1 : Int32))) else (if (lg_cmp (c1 - c2) (0 : Int64)) < 0 then (some (0 : Int32)) else (some (1 : Int32)))
def fX8_is (c1 : Int32) : Option Int32 := if c1 = 0 then (some (1 : Int32)) else (some (0 : Int32))
def fX10_is_B4 (k : Nat) (an : Int32) (n : Int32) (cs : Nat → Int32)  (a : Int32 × Int32) : Option ((Int32 × Int32) ⊕ Int32) := if n ≤ a.2 then (some (.inr a.1)) else (if (a.2 < 0 ∨ n ≤ a.2) then none else (if (cs a.2.toNatClampNeg) = 0 then (some (.inl ((a.1 + (0 : Int32)), (a.2 + (1 : Int32))))) else (some (.inl ((a.1 + (1 : Int32)), (a.2 + (1 : Int32)))))))
def fX10_is (k : Nat) (an : Int32) (n : Int32) (cs : Nat → Int32) : Option Int32 := (lpo (fX10_is_B4 k an n cs ) k ((0 : Int32), (0 : Int32))).bind fun x_4 => if an = 0 then (if x_4 ≤ 0 then (some (0 : Int32)) else (some (1 : Int32))) else (if x_4 = n then (some (1 : Int32)) else (some (0 : Int32)))
/-- the node at a: a sum (true) or an asking (false), within depth d; what it says is u -/
def NodeAt (E : XE) (P : Nat → Prop) : Nat → Bool → Nat → SemF → Heap → Prop
  | 0, _, _, _, _ => False
  | d + 1, t, a, u, H => P a ∧ (match t with
    | true =>
      (∃ n, va_at E.1 E.2.1 (a, .inr (6, [.int n])) H ∧ ∀ f, fX7_of n = some (u f)) ∨
      (∃ n, va_at E.1 E.2.1 (a, .inr (12, [.int n])) H ∧ ∀ f, fX13_of n f = some (u f)) ∨
      (∃ b1 u1, va_at E.1 E.2.1 (a, .inr (14, [.ref b1])) H ∧ NodeAt E P d true b1 u1 H ∧ ∀ f, fX15_of (u1 f) = some (u f)) ∨
      (∃ b1 u1, va_at E.1 E.2.1 (a, .inr (13, [.ref b1])) H ∧ NodeAt E P d true b1 u1 H ∧ ∀ f, fX14_of (u1 f) f = some (u f)) ∨
      (∃ b1 u1 b2 u2, va_at E.1 E.2.1 (a, .inr (11, [.ref b1, .ref b2])) H ∧ NodeAt E P d true b1 u1 H ∧ NodeAt E P d true b2 u2 H ∧ ∀ f, fX12_of (u1 f) (u2 f) = some (u f)) ∨
      (∃ b1 u1 b2 u2 b3 u3, va_at E.1 E.2.1 (a, .inr (10, [.ref b1, .ref b2, .ref b3])) H ∧ NodeAt E P d false b1 u1 H ∧ NodeAt E P d true b2 u2 H ∧ NodeAt E P d true b3 u3 H ∧ ∀ f, fX11_of (u1 f).toInt32 (u2 f) (u3 f) = some (u f)) ∨
      (∃ b1 u1 l1 ea1 cap1 mc1 g1 l2 ea2 cap2 mc2 g2 n, ∃ (us : Nat → SemF) (ss : Nat → Int32), va_at E.1 E.2.1 (a, .inr (5, [.ref b1, .ref l1, .ref l2])) H ∧ NodeAt E P d true b1 u1 H ∧ (P l1 ∧ P ea1 ∧ P l2 ∧ P ea2) ∧ LAt E l1 ea1 cap1 mc1 n g1 H ∧ (∀ i : Int32, ¬ i < 0 → i < n → i.toNatClampNeg < cap1 ∧ ∃ x, g1 i.toNatClampNeg = some x ∧ NodeAt E P d true x (us i.toNatClampNeg) H) ∧ LAt E l2 ea2 cap2 mc2 n g2 H ∧ (∀ i : Int32, ¬ i < 0 → i < n → i.toNatClampNeg < cap2 ∧ ∃ x, g2 i.toNatClampNeg = some x ∧ P x ∧ wOB E x 17 [.int (ss i.toNatClampNeg)] H) ∧ ∀ f, ∃ k, fX6_of k (u1 f) n (fun i => us i f) ss = some (u f))
    | false =>
      (∃ n b1 u1 b2 u2, va_at E.1 E.2.1 (a, .inr (8, [.int n, .ref b1, .ref b2])) H ∧ NodeAt E P d true b1 u1 H ∧ NodeAt E P d true b2 u2 H ∧ ∀ f, fX9_is n (u1 f) (u2 f) = some (u f).toInt32) ∨
      (∃ b1 u1, va_at E.1 E.2.1 (a, .inr (7, [.ref b1])) H ∧ NodeAt E P d false b1 u1 H ∧ ∀ f, fX8_is (u1 f).toInt32 = some (u f).toInt32) ∨
      (∃ an l1 ea1 cap1 mc1 g1 n, ∃ (us : Nat → SemF), va_at E.1 E.2.1 (a, .inr (9, [.int an, .ref l1])) H ∧ (P l1 ∧ P ea1) ∧ LAt E l1 ea1 cap1 mc1 n g1 H ∧ (∀ i : Int32, ¬ i < 0 → i < n → i.toNatClampNeg < cap1 ∧ ∃ x, g1 i.toNatClampNeg = some x ∧ NodeAt E P d false x (us i.toNatClampNeg) H) ∧ ∀ f, ∃ k, fX10_is k an n (fun i => (us i f).toInt32) = some (u f).toInt32))
theorem LAt.kept {E : XE} {P : Nat → Prop} {lo ea cap : Nat} {mc n : Int32} {g : Nat → Option Nat} {H H1 : Heap} (hq : ∀ q, q < H.size → P q → H1[q]? = H[q]?) (h1 : P lo) (h2 : P ea) (h : LAt E lo ea cap mc n g H) : LAt E lo ea cap mc n g H1 := ⟨h.1.kept (hq _ h.1.lt h1), h.2.kept (hq _ h.2.lt h2)⟩
theorem NodeAt.kept {E : XE} {P : Nat → Prop} {H H1 : Heap} (hq : ∀ q, q < H.size → P q → H1[q]? = H[q]?) : ∀ (d : Nat) (t : Bool) (a : Nat) (u : SemF), NodeAt E P d t a u H → NodeAt E P d t a u H1 := by
  intro d
  induction d with
  | zero => intro t a u h; exact h
  | succ d ih =>
    intro t a u h
    obtain ⟨hp, h⟩ := h
    refine ⟨hp, ?_⟩
    have kp : ∀ {o : Nat × List Value}, va_at E.1 E.2.1 (a, .inr o) H → va_at E.1 E.2.1 (a, .inr o) H1 := fun h => h.kept (hq _ h.lt hp)
    cases t with
    | true =>
      rcases h with ⟨n, h1, h2⟩ | ⟨n, h1, h2⟩ | ⟨b1, u1, h1, h2, h3⟩ | ⟨b1, u1, h1, h2, h3⟩ | ⟨b1, u1, b2, u2, h1, h2, h3, h4⟩ | ⟨b1, u1, b2, u2, b3, u3, h1, h2, h3, h4, h5⟩ | ⟨b1, u1, l1, ea1, cap1, mc1, g1, l2, ea2, cap2, mc2, g2, n, us, ss, h1, h2, hP, h3, h4, h5, h6, h7⟩
      · exact Or.inl ⟨n, kp h1, h2⟩
      · exact Or.inr (Or.inl ⟨n, kp h1, h2⟩)
      · exact Or.inr (Or.inr (Or.inl ⟨b1, u1, kp h1, ih _ _ _ h2, h3⟩))
      · exact Or.inr (Or.inr (Or.inr (Or.inl ⟨b1, u1, kp h1, ih _ _ _ h2, h3⟩)))
      · exact Or.inr (Or.inr (Or.inr (Or.inr (Or.inl ⟨b1, u1, b2, u2, kp h1, ih _ _ _ h2, ih _ _ _ h3, h4⟩))))
      · exact Or.inr (Or.inr (Or.inr (Or.inr (Or.inr (Or.inl ⟨b1, u1, b2, u2, b3, u3, kp h1, ih _ _ _ h2, ih _ _ _ h3, ih _ _ _ h4, h5⟩)))))
      · refine Or.inr (Or.inr (Or.inr (Or.inr (Or.inr (Or.inr ⟨b1, u1, l1, ea1, cap1, mc1, g1, l2, ea2, cap2, mc2, g2, n, us, ss, kp h1, ih _ _ _ h2, hP, h3.kept hq hP.1 hP.2.1, fun i i1 i2 => ?_, h5.kept hq hP.2.2.1 hP.2.2.2, fun i i1 i2 => ?_, h7⟩)))))
        · obtain ⟨k1, x, k2, k3⟩ := h4 i i1 i2
          exact ⟨k1, x, k2, ih _ _ _ k3⟩
        · obtain ⟨k1, x, k2, k3, k4⟩ := h6 i i1 i2
          exact ⟨k1, x, k2, k3, k4.kept (hq _ k4.lt k3)⟩
    | false =>
      rcases h with ⟨n, b1, u1, b2, u2, h1, h2, h3, h4⟩ | ⟨b1, u1, h1, h2, h3⟩ | ⟨an, l1, ea1, cap1, mc1, g1, n, us, h1, hP, h3, h4, h5⟩
      · exact Or.inl ⟨n, b1, u1, b2, u2, kp h1, ih _ _ _ h2, ih _ _ _ h3, h4⟩
      · exact Or.inr (Or.inl ⟨b1, u1, kp h1, ih _ _ _ h2, h3⟩)
      · refine Or.inr (Or.inr ⟨an, l1, ea1, cap1, mc1, g1, n, us, kp h1, hP, h3.kept hq hP.1 hP.2, fun i i1 i2 => ?_, h5⟩)
        obtain ⟨k1, x, k2, k3⟩ := h4 i i1 i2
        exact ⟨k1, x, k2, ih _ _ _ k3⟩
/-- more depth, more places: the same node -/
theorem NodeAt.mono {E : XE} {P P' : Nat → Prop} {H : Heap} (hq : ∀ q, P q → P' q) : ∀ (d : Nat) (t : Bool) (a : Nat) (u : SemF), NodeAt E P d t a u H → NodeAt E P' d t a u H := by
  intro d
  induction d with
  | zero => intro t a u h; exact h
  | succ d ih =>
    intro t a u h
    obtain ⟨hp, h⟩ := h
    refine ⟨hq _ hp, ?_⟩
    cases t with
    | true =>
      rcases h with ⟨n, h1, h2⟩ | ⟨n, h1, h2⟩ | ⟨b1, u1, h1, h2, h3⟩ | ⟨b1, u1, h1, h2, h3⟩ | ⟨b1, u1, b2, u2, h1, h2, h3, h4⟩ | ⟨b1, u1, b2, u2, b3, u3, h1, h2, h3, h4, h5⟩ | ⟨b1, u1, l1, ea1, cap1, mc1, g1, l2, ea2, cap2, mc2, g2, n, us, ss, h1, h2, hP, h3, h4, h5, h6, h7⟩
      · exact Or.inl ⟨n, h1, h2⟩
      · exact Or.inr (Or.inl ⟨n, h1, h2⟩)
      · exact Or.inr (Or.inr (Or.inl ⟨b1, u1, h1, ih _ _ _ h2, h3⟩))
      · exact Or.inr (Or.inr (Or.inr (Or.inl ⟨b1, u1, h1, ih _ _ _ h2, h3⟩)))
      · exact Or.inr (Or.inr (Or.inr (Or.inr (Or.inl ⟨b1, u1, b2, u2, h1, ih _ _ _ h2, ih _ _ _ h3, h4⟩))))
      · exact Or.inr (Or.inr (Or.inr (Or.inr (Or.inr (Or.inl ⟨b1, u1, b2, u2, b3, u3, h1, ih _ _ _ h2, ih _ _ _ h3, ih _ _ _ h4, h5⟩)))))
      · refine Or.inr (Or.inr (Or.inr (Or.inr (Or.inr (Or.inr ⟨b1, u1, l1, ea1, cap1, mc1, g1, l2, ea2, cap2, mc2, g2, n, us, ss, h1, ih _ _ _ h2, ⟨hq _ hP.1, hq _ hP.2.1, hq _ hP.2.2.1, hq _ hP.2.2.2⟩, h3, fun i i1 i2 => ?_, h5, fun i i1 i2 => ?_, h7⟩)))))
        · obtain ⟨k1, x, k2, k3⟩ := h4 i i1 i2
          exact ⟨k1, x, k2, ih _ _ _ k3⟩
        · obtain ⟨k1, x, k2, k3, k4⟩ := h6 i i1 i2
          exact ⟨k1, x, k2, hq _ k3, k4⟩
    | false =>
      rcases h with ⟨n, b1, u1, b2, u2, h1, h2, h3, h4⟩ | ⟨b1, u1, h1, h2, h3⟩ | ⟨an, l1, ea1, cap1, mc1, g1, n, us, h1, hP, h3, h4, h5⟩
      · exact Or.inl ⟨n, b1, u1, b2, u2, h1, ih _ _ _ h2, ih _ _ _ h3, h4⟩
      · exact Or.inr (Or.inl ⟨b1, u1, h1, ih _ _ _ h2, h3⟩)
      · refine Or.inr (Or.inr ⟨an, l1, ea1, cap1, mc1, g1, n, us, h1, ⟨hq _ hP.1, hq _ hP.2⟩, h3, fun i i1 i2 => ?_, h5⟩)
        obtain ⟨k1, x, k2, k3⟩ := h4 i i1 i2
        exact ⟨k1, x, k2, ih _ _ _ k3⟩
theorem NodeAt.up {E : XE} {P : Nat → Prop} {H : Heap} : ∀ (d : Nat) (t : Bool) (a : Nat) (u : SemF), NodeAt E P d t a u H → NodeAt E P (d + 1) t a u H := by
  intro d
  induction d with
  | zero => intro t a u h; exact h.elim
  | succ d ih =>
    intro t a u h
    obtain ⟨hp, h⟩ := h
    refine ⟨hp, ?_⟩
    cases t with
    | true =>
      rcases h with ⟨n, h1, h2⟩ | ⟨n, h1, h2⟩ | ⟨b1, u1, h1, h2, h3⟩ | ⟨b1, u1, h1, h2, h3⟩ | ⟨b1, u1, b2, u2, h1, h2, h3, h4⟩ | ⟨b1, u1, b2, u2, b3, u3, h1, h2, h3, h4, h5⟩ | ⟨b1, u1, l1, ea1, cap1, mc1, g1, l2, ea2, cap2, mc2, g2, n, us, ss, h1, h2, hP, h3, h4, h5, h6, h7⟩
      · exact Or.inl ⟨n, h1, h2⟩
      · exact Or.inr (Or.inl ⟨n, h1, h2⟩)
      · exact Or.inr (Or.inr (Or.inl ⟨b1, u1, h1, ih _ _ _ h2, h3⟩))
      · exact Or.inr (Or.inr (Or.inr (Or.inl ⟨b1, u1, h1, ih _ _ _ h2, h3⟩)))
      · exact Or.inr (Or.inr (Or.inr (Or.inr (Or.inl ⟨b1, u1, b2, u2, h1, ih _ _ _ h2, ih _ _ _ h3, h4⟩))))
      · exact Or.inr (Or.inr (Or.inr (Or.inr (Or.inr (Or.inl ⟨b1, u1, b2, u2, b3, u3, h1, ih _ _ _ h2, ih _ _ _ h3, ih _ _ _ h4, h5⟩)))))
      · refine Or.inr (Or.inr (Or.inr (Or.inr (Or.inr (Or.inr ⟨b1, u1, l1, ea1, cap1, mc1, g1, l2, ea2, cap2, mc2, g2, n, us, ss, h1, ih _ _ _ h2, hP, h3, fun i i1 i2 => ?_, h5, h6, h7⟩)))))
        obtain ⟨k1, x, k2, k3⟩ := h4 i i1 i2
        exact ⟨k1, x, k2, ih _ _ _ k3⟩
    | false =>
      rcases h with ⟨n, b1, u1, b2, u2, h1, h2, h3, h4⟩ | ⟨b1, u1, h1, h2, h3⟩ | ⟨an, l1, ea1, cap1, mc1, g1, n, us, h1, hP, h3, h4, h5⟩
      · exact Or.inl ⟨n, b1, u1, b2, u2, h1, ih _ _ _ h2, ih _ _ _ h3, h4⟩
      · exact Or.inr (Or.inl ⟨b1, u1, h1, ih _ _ _ h2, h3⟩)
      · refine Or.inr (Or.inr ⟨an, l1, ea1, cap1, mc1, g1, n, us, h1, hP, h3, fun i i1 i2 => ?_, h5⟩)
        obtain ⟨k1, x, k2, k3⟩ := h4 i i1 i2
        exact ⟨k1, x, k2, ih _ _ _ k3⟩
theorem NodeAt.le {E : XE} {P : Nat → Prop} {H : Heap} {d d' : Nat} (h : d ≤ d') {t : Bool} {a : Nat} {u : SemF} (hn : NodeAt E P d t a u H) : NodeAt E P d' t a u H := by
  induction d' with
  | zero => have : d = 0 := by omega
            subst this; exact hn
  | succ k ih =>
    by_cases e : d = k + 1
    · subst e; exact hn
    · exact NodeAt.up _ _ _ _ (ih (by omega))
/-- its class -/
theorem NodeAt.cls {E : XE} {P : Nat → Prop} {H : Heap} {d : Nat} {t : Bool} {a : Nat} {u : SemF} (h : NodeAt E P d t a u H) : ∃ (C : String) (y : MethodName) (ci : Nat) (q : vw_C) (fs : List Value), (C, (if t = true then ySum else yAsk), y) ∈ xnI ∧ xcl[ci]? = some q ∧ q.1 = C ∧ va_at E.1 E.2.1 (a, .inr (ci, fs)) H := by
  cases d with
  | zero => exact h.elim
  | succ d =>
    obtain ⟨hp, h⟩ := h
    cases t with
    | true =>
      rcases h with ⟨n, h1, h2⟩ | ⟨n, h1, h2⟩ | ⟨b1, u1, h1, h2, h3⟩ | ⟨b1, u1, h1, h2, h3⟩ | ⟨b1, u1, b2, u2, h1, h2, h3, h4⟩ | ⟨b1, u1, b2, u2, b3, u3, h1, h2, h3, h4, h5⟩ | ⟨b1, u1, l1, ea1, cap1, mc1, g1, l2, ea2, cap2, mc2, g2, n, us, ss, h1, h2, hP, h3, h4, h5, h6, h7⟩
      · exact ⟨RX7, yX7_of, 6, _, _, List.mem_of_getElem? (i := 0) rfl, rfl, rfl, h1⟩
      · exact ⟨RX13, yX13_of, 12, _, _, List.mem_of_getElem? (i := 1) rfl, rfl, rfl, h1⟩
      · exact ⟨RX15, yX15_of, 14, _, _, List.mem_of_getElem? (i := 2) rfl, rfl, rfl, h1⟩
      · exact ⟨RX14, yX14_of, 13, _, _, List.mem_of_getElem? (i := 5) rfl, rfl, rfl, h1⟩
      · exact ⟨RX12, yX12_of, 11, _, _, List.mem_of_getElem? (i := 4) rfl, rfl, rfl, h1⟩
      · exact ⟨RX11, yX11_of, 10, _, _, List.mem_of_getElem? (i := 6) rfl, rfl, rfl, h1⟩
      · exact ⟨RX6, yX6_of, 5, _, _, List.mem_of_getElem? (i := 3) rfl, rfl, rfl, h1⟩
    | false =>
      rcases h with ⟨n, b1, u1, b2, u2, h1, h2, h3, h4⟩ | ⟨b1, u1, h1, h2, h3⟩ | ⟨an, l1, ea1, cap1, mc1, g1, n, us, h1, hP, h3, h4, h5⟩
      · exact ⟨RX9, yX9_is, 8, _, _, List.mem_of_getElem? (i := 7) rfl, rfl, rfl, h1⟩
      · exact ⟨RX8, yX8_is, 7, _, _, List.mem_of_getElem? (i := 8) rfl, rfl, rfl, h1⟩
      · exact ⟨RX10, yX10_is, 9, _, _, List.mem_of_getElem? (i := 9) rfl, rfl, rfl, h1⟩
abbrev rmE (d : Nat) : Room := { frames := d + 4, cells := 0, slots := 0, locals := d * 40 + 200 }
theorem eR5 (d : Nat) : 5 ≤ (rmE (d + 1)).frames := by show 5 ≤ d + 1 + 4; omega
theorem eR200 (d : Nat) : 200 ≤ (rmE (d + 1)).locals := by show 200 ≤ (d + 1) * 40 + 200; omega
/-- a call of of(v) on any node of depth d goes on with what the node says -/
def eCallS (l : Launch) (E : XE) (P : Nat → Prop) (d : Nat) : Prop := ∀ {p : Program} {e : Env} {R : Room} {s : State} {m : MethodId} {args : Array Value} {below : List Frame} {meth : Method} {c : Code} {own : String} {cc : ByteArray} {nL : Nat} {rt : Option FieldType} {H : Heap} {locs : List Loc} {cells slots : Nat} {Q : State → Prop} {pc : Nat} {ls : Array Slot} {rest : List Value} {index count b v : Nat} {u : SemF} {f : Nat → Int32} {r : Int64}, Cond.methodLink own index ySum ∈ lw_all → eC E own cc nL rt p s m args meth c → va_at E.1 E.2.1 (v, .inl (E.2.2.2.1 0, 38, .inl f)) H → NodeAt E P d true b u H → u f = r → ls.size = nL → d + 5 ≤ R.frames → d * 40 + 240 ≤ R.locals → 2 * (F0 m pc ls (.ref v :: .ref b :: rest)).monitorRoom + (rest.map fun v => v.category).sum ≤ 8 → (cells + 0 ≤ R.cells ∧ slots + 0 ≤ R.slots) → decode cc pc = .ok (.invokeinterface index count, 5) → W p l e R s m args below meth c H locs cells slots Q (F0 m (pc + 5) ls (.long r :: rest)) → W p l e R s m args below meth c H locs cells slots Q (F0 m pc ls (.ref v :: .ref b :: rest))
def eCallA (l : Launch) (E : XE) (P : Nat → Prop) (d : Nat) : Prop := ∀ {p : Program} {e : Env} {R : Room} {s : State} {m : MethodId} {args : Array Value} {below : List Frame} {meth : Method} {c : Code} {own : String} {cc : ByteArray} {nL : Nat} {rt : Option FieldType} {H : Heap} {locs : List Loc} {cells slots : Nat} {Q : State → Prop} {pc : Nat} {ls : Array Slot} {rest : List Value} {index count b v : Nat} {u : SemF} {f : Nat → Int32} {r : Int32}, Cond.methodLink own index yAsk ∈ lw_all → eC E own cc nL rt p s m args meth c → va_at E.1 E.2.1 (v, .inl (E.2.2.2.1 0, 38, .inl f)) H → NodeAt E P d false b u H → (u f).toInt32 = r → ls.size = nL → d + 5 ≤ R.frames → d * 40 + 240 ≤ R.locals → 2 * (F0 m pc ls (.ref v :: .ref b :: rest)).monitorRoom + (rest.map fun v => v.category).sum ≤ 8 → (cells + 0 ≤ R.cells ∧ slots + 0 ≤ R.slots) → decode cc pc = .ok (.invokeinterface index count, 5) → W p l e R s m args below meth c H locs cells slots Q (F0 m (pc + 5) ls (.int r :: rest)) → W p l e R s m args below meth c H locs cells slots Q (F0 m pc ls (.ref v :: .ref b :: rest))
section ND
variable {p : Program} {l : Launch} {e : Env} {R : Room} {s : State} {m : MethodId} {args : Array Value} {below : List Frame} {meth : Method} {c : Code} {H : Heap} {locs : List Loc} {cells slots : Nat} {Q : State → Prop} {E : XE} {P : Nat → Prop} {own : String} {cc : ByteArray} {nL : Nat} {rt : Option FieldType} {ls : Array Slot} {pc : Nat} {rest : List Value}
theorem e_castS {d x index : Nat} {u : SemF} (hC : eC E own cc nL rt p s m args meth c) (hN : NodeAt E P d true x u H) (hl : Cond.classLink own index "RailingsCount$Sum" ∈ lw_all) (hdg : decode cc pc = .ok (.checkcast index, 3))
    (k : W p l e R s m args below meth c H locs cells slots Q (F0 m (pc + 3) ls (.ref x :: rest))) : W p l e R s m args below meth c H locs cells slots Q (F0 m pc ls (.ref x :: rest)) := by
  obtain ⟨C, y, ci, q, fs, h1, h2, h3, h4⟩ := NodeAt.cls hN
  have h5 := e_recv hC h4 (hC.2.2.1 ci q h2)
  rw [h3] at h5
  have h6 := hC.2.2.2 _ h1
  exact va_castY (C := C) hC.1.1 hC.1.2.1 hC.1.2.2.2.2.2.1 (hC.1.2.2.2.2.2.2 _ hl) h6.2.2.2.2 h5 hdg k
theorem e_castA {d x index : Nat} {u : SemF} (hC : eC E own cc nL rt p s m args meth c) (hN : NodeAt E P d false x u H) (hl : Cond.classLink own index "RailingsCount$Asked" ∈ lw_all) (hdg : decode cc pc = .ok (.checkcast index, 3))
    (k : W p l e R s m args below meth c H locs cells slots Q (F0 m (pc + 3) ls (.ref x :: rest))) : W p l e R s m args below meth c H locs cells slots Q (F0 m pc ls (.ref x :: rest)) := by
  obtain ⟨C, y, ci, q, fs, h1, h2, h3, h4⟩ := NodeAt.cls hN
  have h5 := e_recv hC h4 (hC.2.2.1 ci q h2)
  rw [h3] at h5
  have h6 := hC.2.2.2 _ h1
  exact va_castY (C := C) hC.1.1 hC.1.2.1 hC.1.2.2.2.2.2.1 (hC.1.2.2.2.2.2.2 _ hl) h6.2.2.2.2 h5 hdg k
end ND
theorem cdJ3_size : yJ3_size.cls = RJ3 ∧ yJ3_size.cls ≠ "java/lang/invoke/MethodHandle" ∧ yJ3_size.cls ≠ "java/lang/invoke/VarHandle" ∧ (parseMethodDescriptor yJ3_size.desc).map (fun d => d.parameters.length) = some 0 := by decide +kernel
theorem cdJ3_get : yJ3_get.cls = RJ3 ∧ yJ3_get.cls ≠ "java/lang/invoke/MethodHandle" ∧ yJ3_get.cls ≠ "java/lang/invoke/VarHandle" ∧ (parseMethodDescriptor yJ3_get.desc).map (fun d => d.parameters.length) = some 1 := by decide +kernel
theorem cdJ15_intValue : yJ15_intValue.cls = RJ15 ∧ yJ15_intValue.cls ≠ "java/lang/invoke/MethodHandle" ∧ yJ15_intValue.cls ≠ "java/lang/invoke/VarHandle" ∧ (parseMethodDescriptor yJ15_intValue.desc).map (fun d => d.parameters.length) = some 0 := by decide +kernel
