/-! new of a nest mate's class, by its private constructor -/
set_option maxRecDepth 100000
section NI
variable {p : Program} {l : Launch} {e : Env} {R : Room} {s : State} {m : MethodId} {args : Array Value} {below : List Frame} {meth : Method} {c : Code} {H : Heap} {locs : List Loc} {cells slots : Nat} {Q : State → Prop} {E : XE} {A : Nat → Prop} {mn own : String} {cc : ByteArray} {nL : Nat} {rt : Option FieldType} {ls : Array Slot} {pc : Nat} {rest : List Value}
theorem b_callIN {y : MethodName} {host : String} {bytes : ByteArray} {maxL n index : Nat} {rm : Room} {st : List Value} {A1 : Nat → Prop} {Cd : Heap → Prop} {Po : Nat → Option Value → Heap → Prop} (As : List Value) (b : Nat) (hC : bC E A mn own cc nL rt p s m args meth c) (hS : va_S (bW A s.heap.size) s.heap H locs) (hls : ls.size = nL) (hM : bM l E A1 y (ws_ y bytes maxL none) rm (.ref b :: As) Cd Po) (hA1 : ∀ q, A1 q → ¬ E.2.2.2.2.1 q) (hCd : Cd H)
    (cw : va_CN R s args own index y host bytes maxL none (ws_ y bytes maxL none) rm rm.cells rm.slots n ∧ y.name = "<init>" ∧ (Cond.instanceMethod y).before args s = true) (hst : st = As.reverse ++ .ref b :: rest) (hn : As.length = n) (hroom : 2 * (F0 m pc ls st).monitorRoom + (rest.map fun v => v.category).sum ≤ 8) (hfit : cells + rm.cells ≤ R.cells ∧ slots + rm.slots ≤ R.slots) (hA : ∀ q, A1 q → bW A s.heap.size q) (hdg : decode cc pc = .ok (.invokespecial index, 3))
    (kk : ∀ (o : Option Value) (H1 : Heap) (locs1 : List Loc), Po H.size o H1 → H.size ≤ H1.size → (∀ q, q < H.size → ¬ A1 q → H1[q]? = H[q]?) → va_S (bW A s.heap.size) s.heap H1 locs1 → W p l e R s m args below meth c H1 locs1 (cells + rm.cells) (slots + rm.slots) Q (F0 m (pc + 3) ls (o.toList ++ rest))) : W p l e R s m args below meth c H locs cells slots Q (F0 m pc ls st) := by
  have hC0 := hC
  obtain ⟨⟨⟨hx, hb, hr, hlocks, hml, hown, hts⟩, hK, hE, -⟩, hG, -⟩ := hC
  have hr := va_runIN (l := l) (e := e) (R := R) (below := below) (meth := meth) (locs := locs) (cells := cells) (slots := slots) (g := F0 m pc ls st) (Ts := lw_all) (rest := rest) ⟨hx, hb, hml, hown, hts⟩ (hM hE hA1 H.size) cw ⟨bPc_blind E H.size _ Cd, fun U hU hW => ⟨rfl, by rw [hU], va_K.moved hW.alike hK, hG.k (b_fr hC0 hS hU hW), by rw [hU]; exact hCd⟩⟩ rfl hn hls hst hroom hdg hfit
  exact b_back (g := F0 m pc ls st) hr hS hA kk
end NI
