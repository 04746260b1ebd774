/-! rows of X's fields, of its calls, the rooms (printed by gen/genx.py) -/
set_option maxRecDepth 100000
theorem gX_21 {p : Program} {l : Launch} {e : Env} {R : Room} {s : State} {m : MethodId} {args : Array Value} {below : List Frame} {meth : Method} {c : Code} {H : Heap} {locs : List Loc} {cells slots : Nat} {Q : State → Prop} {E : XE} {cc : ByteArray} {nL : Nat} {rt : Option FieldType} {z : XS} {ls : Array Slot} {pc : Nat} {rest : List Value} (hC : xC E RX0 cc nL rt p s m args meth c) (hP : va_P E.1 E.2.1 (xw E z) H) (hdg : decode cc pc = .ok (.getfield 21, 3)) (kk : W p l e R s m args below meth c H locs cells slots Q (F0 m (pc + 3) ls (.ref (E.2.2.1 1) :: rest))) : W p l e R s m args below meth c H locs cells slots Q (F0 m pc ls (.ref (E.2.2.1 0) :: rest)) := x_get hC hP 0 0 0 in_X0 (xw_get E z (k := 0) (by decide)) (xC.c0 hC) (by decide) q232 rfl rfl hdg kk
theorem gX_25 {p : Program} {l : Launch} {e : Env} {R : Room} {s : State} {m : MethodId} {args : Array Value} {below : List Frame} {meth : Method} {c : Code} {H : Heap} {locs : List Loc} {cells slots : Nat} {Q : State → Prop} {E : XE} {cc : ByteArray} {nL : Nat} {rt : Option FieldType} {z : XS} {ls : Array Slot} {pc : Nat} {rest : List Value} (hC : xC E RX0 cc nL rt p s m args meth c) (hP : va_P E.1 E.2.1 (xw E z) H) (hdg : decode cc pc = .ok (.getfield 25, 3)) (kk : W p l e R s m args below meth c H locs cells slots Q (F0 m (pc + 3) ls (.ref (E.2.2.1 2) :: rest))) : W p l e R s m args below meth c H locs cells slots Q (F0 m pc ls (.ref (E.2.2.1 0) :: rest)) := x_get hC hP 0 0 1 in_X0 (xw_get E z (k := 0) (by decide)) (xC.c0 hC) (by decide) q233 rfl rfl hdg kk
theorem gX_28 {p : Program} {l : Launch} {e : Env} {R : Room} {s : State} {m : MethodId} {args : Array Value} {below : List Frame} {meth : Method} {c : Code} {H : Heap} {locs : List Loc} {cells slots : Nat} {Q : State → Prop} {E : XE} {cc : ByteArray} {nL : Nat} {rt : Option FieldType} {z : XS} {ls : Array Slot} {pc : Nat} {rest : List Value} (hC : xC E RX0 cc nL rt p s m args meth c) (hP : va_P E.1 E.2.1 (xw E z) H) (hdg : decode cc pc = .ok (.getfield 28, 3)) (kk : W p l e R s m args below meth c H locs cells slots Q (F0 m (pc + 3) ls (.ref (E.2.2.1 3) :: rest))) : W p l e R s m args below meth c H locs cells slots Q (F0 m pc ls (.ref (E.2.2.1 0) :: rest)) := x_get hC hP 0 0 2 in_X0 (xw_get E z (k := 0) (by decide)) (xC.c0 hC) (by decide) q234 rfl rfl hdg kk
theorem gX_32 {p : Program} {l : Launch} {e : Env} {R : Room} {s : State} {m : MethodId} {args : Array Value} {below : List Frame} {meth : Method} {c : Code} {H : Heap} {locs : List Loc} {cells slots : Nat} {Q : State → Prop} {E : XE} {cc : ByteArray} {nL : Nat} {rt : Option FieldType} {z : XS} {ls : Array Slot} {pc : Nat} {rest : List Value} (hC : xC E RX0 cc nL rt p s m args meth c) (hP : va_P E.1 E.2.1 (xw E z) H) (hdg : decode cc pc = .ok (.getfield 32, 3)) (kk : W p l e R s m args below meth c H locs cells slots Q (F0 m (pc + 3) ls (.int (z.1 4) :: rest))) : W p l e R s m args below meth c H locs cells slots Q (F0 m pc ls (.ref (E.2.2.1 0) :: rest)) := x_get hC hP 0 0 4 in_X0 (xw_get E z (k := 0) (by decide)) (xC.c0 hC) (by decide) q236 rfl rfl hdg kk
theorem pX_32 {p : Program} {l : Launch} {e : Env} {R : Room} {s : State} {m : MethodId} {args : Array Value} {below : List Frame} {meth : Method} {c : Code} {H : Heap} {locs : List Loc} {cells slots : Nat} {Q : State → Prop} {E : XE} {cc : ByteArray} {nL : Nat} {rt : Option FieldType} {z : XS} {ls : Array Slot} {pc : Nat} {rest : List Value} {v : Int32} {z1 : XS} (hC : xC E RX0 cc nL rt p s m args meth c) (hP : va_P E.1 E.2.1 (xw E z) H) (hS : va_S (xF E s.heap.size) s.heap H locs) (ez : z1 = xI z 4 v) (hdg : decode cc pc = .ok (.putfield 32, 3)) (kk : ∀ (H1 : Heap) (locs1 : List Loc), va_P E.1 E.2.1 (xw E z1) H1 → va_S (xF E s.heap.size) s.heap H1 locs1 → W p l e R s m args below meth c H1 locs1 cells slots Q (F0 m (pc + 3) ls rest)) : W p l e R s m args below meth c H locs cells slots Q (F0 m pc ls (.int v :: .ref (E.2.2.1 0) :: rest)) := x_putI hC hP hS 4 (by decide) ez q236 rfl rfl (by decide +kernel) rfl hdg kk
theorem gX_36 {p : Program} {l : Launch} {e : Env} {R : Room} {s : State} {m : MethodId} {args : Array Value} {below : List Frame} {meth : Method} {c : Code} {H : Heap} {locs : List Loc} {cells slots : Nat} {Q : State → Prop} {E : XE} {cc : ByteArray} {nL : Nat} {rt : Option FieldType} {z : XS} {ls : Array Slot} {pc : Nat} {rest : List Value} (hC : xC E RX0 cc nL rt p s m args meth c) (hP : va_P E.1 E.2.1 (xw E z) H) (hdg : decode cc pc = .ok (.getfield 36, 3)) (kk : W p l e R s m args below meth c H locs cells slots Q (F0 m (pc + 3) ls (.int (z.1 5) :: rest))) : W p l e R s m args below meth c H locs cells slots Q (F0 m pc ls (.ref (E.2.2.1 0) :: rest)) := x_get hC hP 0 0 5 in_X0 (xw_get E z (k := 0) (by decide)) (xC.c0 hC) (by decide) q237 rfl rfl hdg kk
theorem pX_36 {p : Program} {l : Launch} {e : Env} {R : Room} {s : State} {m : MethodId} {args : Array Value} {below : List Frame} {meth : Method} {c : Code} {H : Heap} {locs : List Loc} {cells slots : Nat} {Q : State → Prop} {E : XE} {cc : ByteArray} {nL : Nat} {rt : Option FieldType} {z : XS} {ls : Array Slot} {pc : Nat} {rest : List Value} {v : Int32} {z1 : XS} (hC : xC E RX0 cc nL rt p s m args meth c) (hP : va_P E.1 E.2.1 (xw E z) H) (hS : va_S (xF E s.heap.size) s.heap H locs) (ez : z1 = xI z 5 v) (hdg : decode cc pc = .ok (.putfield 36, 3)) (kk : ∀ (H1 : Heap) (locs1 : List Loc), va_P E.1 E.2.1 (xw E z1) H1 → va_S (xF E s.heap.size) s.heap H1 locs1 → W p l e R s m args below meth c H1 locs1 cells slots Q (F0 m (pc + 3) ls rest)) : W p l e R s m args below meth c H locs cells slots Q (F0 m pc ls (.int v :: .ref (E.2.2.1 0) :: rest)) := x_putI hC hP hS 5 (by decide) ez q237 rfl rfl (by decide +kernel) rfl hdg kk
theorem gX_39 {p : Program} {l : Launch} {e : Env} {R : Room} {s : State} {m : MethodId} {args : Array Value} {below : List Frame} {meth : Method} {c : Code} {H : Heap} {locs : List Loc} {cells slots : Nat} {Q : State → Prop} {E : XE} {cc : ByteArray} {nL : Nat} {rt : Option FieldType} {z : XS} {ls : Array Slot} {pc : Nat} {rest : List Value} (hC : xC E RX0 cc nL rt p s m args meth c) (hP : va_P E.1 E.2.1 (xw E z) H) (hdg : decode cc pc = .ok (.getfield 39, 3)) (kk : W p l e R s m args below meth c H locs cells slots Q (F0 m (pc + 3) ls (.ref (E.2.2.1 4) :: rest))) : W p l e R s m args below meth c H locs cells slots Q (F0 m pc ls (.ref (E.2.2.1 0) :: rest)) := x_get hC hP 0 0 6 in_X0 (xw_get E z (k := 0) (by decide)) (xC.c0 hC) (by decide) q238 rfl rfl hdg kk
theorem gX_43 {p : Program} {l : Launch} {e : Env} {R : Room} {s : State} {m : MethodId} {args : Array Value} {below : List Frame} {meth : Method} {c : Code} {H : Heap} {locs : List Loc} {cells slots : Nat} {Q : State → Prop} {E : XE} {cc : ByteArray} {nL : Nat} {rt : Option FieldType} {z : XS} {ls : Array Slot} {pc : Nat} {rest : List Value} (hC : xC E RX0 cc nL rt p s m args meth c) (hP : va_P E.1 E.2.1 (xw E z) H) (hdg : decode cc pc = .ok (.getfield 43, 3)) (kk : W p l e R s m args below meth c H locs cells slots Q (F0 m (pc + 3) ls (.ref (E.2.2.1 5) :: rest))) : W p l e R s m args below meth c H locs cells slots Q (F0 m pc ls (.ref (E.2.2.1 0) :: rest)) := x_get hC hP 0 0 7 in_X0 (xw_get E z (k := 0) (by decide)) (xC.c0 hC) (by decide) q239 rfl rfl hdg kk
theorem gX_46 {p : Program} {l : Launch} {e : Env} {R : Room} {s : State} {m : MethodId} {args : Array Value} {below : List Frame} {meth : Method} {c : Code} {H : Heap} {locs : List Loc} {cells slots : Nat} {Q : State → Prop} {E : XE} {cc : ByteArray} {nL : Nat} {rt : Option FieldType} {z : XS} {ls : Array Slot} {pc : Nat} {rest : List Value} (hC : xC E RX0 cc nL rt p s m args meth c) (hP : va_P E.1 E.2.1 (xw E z) H) (hdg : decode cc pc = .ok (.getfield 46, 3)) (kk : W p l e R s m args below meth c H locs cells slots Q (F0 m (pc + 3) ls (.ref (E.2.2.1 6) :: rest))) : W p l e R s m args below meth c H locs cells slots Q (F0 m pc ls (.ref (E.2.2.1 0) :: rest)) := x_get hC hP 0 0 8 in_X0 (xw_get E z (k := 0) (by decide)) (xC.c0 hC) (by decide) q240 rfl rfl hdg kk
theorem gX_51 {p : Program} {l : Launch} {e : Env} {R : Room} {s : State} {m : MethodId} {args : Array Value} {below : List Frame} {meth : Method} {c : Code} {H : Heap} {locs : List Loc} {cells slots : Nat} {Q : State → Prop} {E : XE} {cc : ByteArray} {nL : Nat} {rt : Option FieldType} {z : XS} {ls : Array Slot} {pc : Nat} {rest : List Value} (hC : xC E RX0 cc nL rt p s m args meth c) (hP : va_P E.1 E.2.1 (xw E z) H) (hdg : decode cc pc = .ok (.getfield 51, 3)) (kk : W p l e R s m args below meth c H locs cells slots Q (F0 m (pc + 3) ls (.ref (E.2.2.1 7) :: rest))) : W p l e R s m args below meth c H locs cells slots Q (F0 m pc ls (.ref (E.2.2.1 0) :: rest)) := x_get hC hP 0 0 10 in_X0 (xw_get E z (k := 0) (by decide)) (xC.c0 hC) (by decide) q242 rfl rfl hdg kk
theorem gX_82 {p : Program} {l : Launch} {e : Env} {R : Room} {s : State} {m : MethodId} {args : Array Value} {below : List Frame} {meth : Method} {c : Code} {H : Heap} {locs : List Loc} {cells slots : Nat} {Q : State → Prop} {E : XE} {cc : ByteArray} {nL : Nat} {rt : Option FieldType} {z : XS} {ls : Array Slot} {pc : Nat} {rest : List Value} (hC : xC E RX0 cc nL rt p s m args meth c) (hP : va_P E.1 E.2.1 (xw E z) H) (hdg : decode cc pc = .ok (.getfield 82, 3)) (kk : W p l e R s m args below meth c H locs cells slots Q (F0 m (pc + 3) ls (.int (z.1 3) :: rest))) : W p l e R s m args below meth c H locs cells slots Q (F0 m pc ls (.ref (E.2.2.1 0) :: rest)) := x_get hC hP 0 0 3 in_X0 (xw_get E z (k := 0) (by decide)) (xC.c0 hC) (by decide) q235 rfl rfl hdg kk
theorem pX_82 {p : Program} {l : Launch} {e : Env} {R : Room} {s : State} {m : MethodId} {args : Array Value} {below : List Frame} {meth : Method} {c : Code} {H : Heap} {locs : List Loc} {cells slots : Nat} {Q : State → Prop} {E : XE} {cc : ByteArray} {nL : Nat} {rt : Option FieldType} {z : XS} {ls : Array Slot} {pc : Nat} {rest : List Value} {v : Int32} {z1 : XS} (hC : xC E RX0 cc nL rt p s m args meth c) (hP : va_P E.1 E.2.1 (xw E z) H) (hS : va_S (xF E s.heap.size) s.heap H locs) (ez : z1 = xI z 3 v) (hdg : decode cc pc = .ok (.putfield 82, 3)) (kk : ∀ (H1 : Heap) (locs1 : List Loc), va_P E.1 E.2.1 (xw E z1) H1 → va_S (xF E s.heap.size) s.heap H1 locs1 → W p l e R s m args below meth c H1 locs1 cells slots Q (F0 m (pc + 3) ls rest)) : W p l e R s m args below meth c H locs cells slots Q (F0 m pc ls (.int v :: .ref (E.2.2.1 0) :: rest)) := x_putI hC hP hS 3 (by decide) ez q235 rfl rfl (by decide +kernel) rfl hdg kk
theorem gX_272 {p : Program} {l : Launch} {e : Env} {R : Room} {s : State} {m : MethodId} {args : Array Value} {below : List Frame} {meth : Method} {c : Code} {H : Heap} {locs : List Loc} {cells slots : Nat} {Q : State → Prop} {E : XE} {cc : ByteArray} {nL : Nat} {rt : Option FieldType} {z : XS} {ls : Array Slot} {pc : Nat} {rest : List Value} (hC : xC E RX0 cc nL rt p s m args meth c) (hP : va_P E.1 E.2.1 (xw E z) H) (hdg : decode cc pc = .ok (.getfield 272, 3)) (kk : W p l e R s m args below meth c H locs cells slots Q (F0 m (pc + 3) ls (.int (z.1 9) :: rest))) : W p l e R s m args below meth c H locs cells slots Q (F0 m pc ls (.ref (E.2.2.1 0) :: rest)) := x_get hC hP 0 0 9 in_X0 (xw_get E z (k := 0) (by decide)) (xC.c0 hC) (by decide) q241 rfl rfl hdg kk
theorem pX_272 {p : Program} {l : Launch} {e : Env} {R : Room} {s : State} {m : MethodId} {args : Array Value} {below : List Frame} {meth : Method} {c : Code} {H : Heap} {locs : List Loc} {cells slots : Nat} {Q : State → Prop} {E : XE} {cc : ByteArray} {nL : Nat} {rt : Option FieldType} {z : XS} {ls : Array Slot} {pc : Nat} {rest : List Value} {v : Int32} {z1 : XS} (hC : xC E RX0 cc nL rt p s m args meth c) (hP : va_P E.1 E.2.1 (xw E z) H) (hS : va_S (xF E s.heap.size) s.heap H locs) (ez : z1 = xI z 9 v) (hdg : decode cc pc = .ok (.putfield 272, 3)) (kk : ∀ (H1 : Heap) (locs1 : List Loc), va_P E.1 E.2.1 (xw E z1) H1 → va_S (xF E s.heap.size) s.heap H1 locs1 → W p l e R s m args below meth c H1 locs1 cells slots Q (F0 m (pc + 3) ls rest)) : W p l e R s m args below meth c H locs cells slots Q (F0 m pc ls (.int v :: .ref (E.2.2.1 0) :: rest)) := x_putI hC hP hS 9 (by decide) ez q241 rfl rfl (by decide +kernel) rfl hdg kk
theorem gS_9_1 {p : Program} {l : Launch} {e : Env} {R : Room} {s : State} {m : MethodId} {args : Array Value} {below : List Frame} {meth : Method} {c : Code} {H : Heap} {locs : List Loc} {cells slots : Nat} {Q : State → Prop} {E : XE} {cc : ByteArray} {nL : Nat} {rt : Option FieldType} {z : XS} {ls : Array Slot} {pc : Nat} {rest : List Value} (hC : xC E RX1 cc nL rt p s m args meth c) (hP : va_P E.1 E.2.1 (xw E z) H) (hdg : decode cc pc = .ok (.getfield 9, 3)) (kk : W p l e R s m args below meth c H locs cells slots Q (F0 m (pc + 3) ls (.ref (E.2.2.1 8) :: rest))) : W p l e R s m args below meth c H locs cells slots Q (F0 m pc ls (.ref (E.2.2.1 1) :: rest)) := x_get hC hP 1 1 0 in_X1 (xw_get E z (k := 1) (by decide)) (xC.c1 hC) (by decide) q180 rfl rfl hdg kk
theorem gS_9_2 {p : Program} {l : Launch} {e : Env} {R : Room} {s : State} {m : MethodId} {args : Array Value} {below : List Frame} {meth : Method} {c : Code} {H : Heap} {locs : List Loc} {cells slots : Nat} {Q : State → Prop} {E : XE} {cc : ByteArray} {nL : Nat} {rt : Option FieldType} {z : XS} {ls : Array Slot} {pc : Nat} {rest : List Value} (hC : xC E RX1 cc nL rt p s m args meth c) (hP : va_P E.1 E.2.1 (xw E z) H) (hdg : decode cc pc = .ok (.getfield 9, 3)) (kk : W p l e R s m args below meth c H locs cells slots Q (F0 m (pc + 3) ls (.ref (E.2.2.1 17) :: rest))) : W p l e R s m args below meth c H locs cells slots Q (F0 m pc ls (.ref (E.2.2.1 2) :: rest)) := x_get hC hP 2 1 0 in_X1 (xw_get E z (k := 2) (by decide)) (xC.c1 hC) (by decide) q180 rfl rfl hdg kk
theorem gS_15_1 {p : Program} {l : Launch} {e : Env} {R : Room} {s : State} {m : MethodId} {args : Array Value} {below : List Frame} {meth : Method} {c : Code} {H : Heap} {locs : List Loc} {cells slots : Nat} {Q : State → Prop} {E : XE} {cc : ByteArray} {nL : Nat} {rt : Option FieldType} {z : XS} {ls : Array Slot} {pc : Nat} {rest : List Value} (hC : xC E RX1 cc nL rt p s m args meth c) (hP : va_P E.1 E.2.1 (xw E z) H) (hdg : decode cc pc = .ok (.getfield 15, 3)) (kk : W p l e R s m args below meth c H locs cells slots Q (F0 m (pc + 3) ls (.ref (E.2.2.1 9) :: rest))) : W p l e R s m args below meth c H locs cells slots Q (F0 m pc ls (.ref (E.2.2.1 1) :: rest)) := x_get hC hP 1 1 1 in_X1 (xw_get E z (k := 1) (by decide)) (xC.c1 hC) (by decide) q182 rfl rfl hdg kk
theorem gS_15_2 {p : Program} {l : Launch} {e : Env} {R : Room} {s : State} {m : MethodId} {args : Array Value} {below : List Frame} {meth : Method} {c : Code} {H : Heap} {locs : List Loc} {cells slots : Nat} {Q : State → Prop} {E : XE} {cc : ByteArray} {nL : Nat} {rt : Option FieldType} {z : XS} {ls : Array Slot} {pc : Nat} {rest : List Value} (hC : xC E RX1 cc nL rt p s m args meth c) (hP : va_P E.1 E.2.1 (xw E z) H) (hdg : decode cc pc = .ok (.getfield 15, 3)) (kk : W p l e R s m args below meth c H locs cells slots Q (F0 m (pc + 3) ls (.ref (E.2.2.1 18) :: rest))) : W p l e R s m args below meth c H locs cells slots Q (F0 m pc ls (.ref (E.2.2.1 2) :: rest)) := x_get hC hP 2 1 1 in_X1 (xw_get E z (k := 2) (by decide)) (xC.c1 hC) (by decide) q182 rfl rfl hdg kk
theorem gS_18_1 {p : Program} {l : Launch} {e : Env} {R : Room} {s : State} {m : MethodId} {args : Array Value} {below : List Frame} {meth : Method} {c : Code} {H : Heap} {locs : List Loc} {cells slots : Nat} {Q : State → Prop} {E : XE} {cc : ByteArray} {nL : Nat} {rt : Option FieldType} {z : XS} {ls : Array Slot} {pc : Nat} {rest : List Value} (hC : xC E RX1 cc nL rt p s m args meth c) (hP : va_P E.1 E.2.1 (xw E z) H) (hdg : decode cc pc = .ok (.getfield 18, 3)) (kk : W p l e R s m args below meth c H locs cells slots Q (F0 m (pc + 3) ls (.ref (E.2.2.1 10) :: rest))) : W p l e R s m args below meth c H locs cells slots Q (F0 m pc ls (.ref (E.2.2.1 1) :: rest)) := x_get hC hP 1 1 2 in_X1 (xw_get E z (k := 1) (by decide)) (xC.c1 hC) (by decide) q184 rfl rfl hdg kk
theorem gS_18_2 {p : Program} {l : Launch} {e : Env} {R : Room} {s : State} {m : MethodId} {args : Array Value} {below : List Frame} {meth : Method} {c : Code} {H : Heap} {locs : List Loc} {cells slots : Nat} {Q : State → Prop} {E : XE} {cc : ByteArray} {nL : Nat} {rt : Option FieldType} {z : XS} {ls : Array Slot} {pc : Nat} {rest : List Value} (hC : xC E RX1 cc nL rt p s m args meth c) (hP : va_P E.1 E.2.1 (xw E z) H) (hdg : decode cc pc = .ok (.getfield 18, 3)) (kk : W p l e R s m args below meth c H locs cells slots Q (F0 m (pc + 3) ls (.ref (E.2.2.1 19) :: rest))) : W p l e R s m args below meth c H locs cells slots Q (F0 m pc ls (.ref (E.2.2.1 2) :: rest)) := x_get hC hP 2 1 2 in_X1 (xw_get E z (k := 2) (by decide)) (xC.c1 hC) (by decide) q184 rfl rfl hdg kk
theorem gS_21_1 {p : Program} {l : Launch} {e : Env} {R : Room} {s : State} {m : MethodId} {args : Array Value} {below : List Frame} {meth : Method} {c : Code} {H : Heap} {locs : List Loc} {cells slots : Nat} {Q : State → Prop} {E : XE} {cc : ByteArray} {nL : Nat} {rt : Option FieldType} {z : XS} {ls : Array Slot} {pc : Nat} {rest : List Value} (hC : xC E RX1 cc nL rt p s m args meth c) (hP : va_P E.1 E.2.1 (xw E z) H) (hdg : decode cc pc = .ok (.getfield 21, 3)) (kk : W p l e R s m args below meth c H locs cells slots Q (F0 m (pc + 3) ls (.ref (E.2.2.1 11) :: rest))) : W p l e R s m args below meth c H locs cells slots Q (F0 m pc ls (.ref (E.2.2.1 1) :: rest)) := x_get hC hP 1 1 3 in_X1 (xw_get E z (k := 1) (by decide)) (xC.c1 hC) (by decide) q186 rfl rfl hdg kk
theorem gS_21_2 {p : Program} {l : Launch} {e : Env} {R : Room} {s : State} {m : MethodId} {args : Array Value} {below : List Frame} {meth : Method} {c : Code} {H : Heap} {locs : List Loc} {cells slots : Nat} {Q : State → Prop} {E : XE} {cc : ByteArray} {nL : Nat} {rt : Option FieldType} {z : XS} {ls : Array Slot} {pc : Nat} {rest : List Value} (hC : xC E RX1 cc nL rt p s m args meth c) (hP : va_P E.1 E.2.1 (xw E z) H) (hdg : decode cc pc = .ok (.getfield 21, 3)) (kk : W p l e R s m args below meth c H locs cells slots Q (F0 m (pc + 3) ls (.ref (E.2.2.1 20) :: rest))) : W p l e R s m args below meth c H locs cells slots Q (F0 m pc ls (.ref (E.2.2.1 2) :: rest)) := x_get hC hP 2 1 3 in_X1 (xw_get E z (k := 2) (by decide)) (xC.c1 hC) (by decide) q186 rfl rfl hdg kk
theorem gS_24_1 {p : Program} {l : Launch} {e : Env} {R : Room} {s : State} {m : MethodId} {args : Array Value} {below : List Frame} {meth : Method} {c : Code} {H : Heap} {locs : List Loc} {cells slots : Nat} {Q : State → Prop} {E : XE} {cc : ByteArray} {nL : Nat} {rt : Option FieldType} {z : XS} {ls : Array Slot} {pc : Nat} {rest : List Value} (hC : xC E RX1 cc nL rt p s m args meth c) (hP : va_P E.1 E.2.1 (xw E z) H) (hdg : decode cc pc = .ok (.getfield 24, 3)) (kk : W p l e R s m args below meth c H locs cells slots Q (F0 m (pc + 3) ls (.ref (E.2.2.1 12) :: rest))) : W p l e R s m args below meth c H locs cells slots Q (F0 m pc ls (.ref (E.2.2.1 1) :: rest)) := x_get hC hP 1 1 4 in_X1 (xw_get E z (k := 1) (by decide)) (xC.c1 hC) (by decide) q188 rfl rfl hdg kk
theorem gS_24_2 {p : Program} {l : Launch} {e : Env} {R : Room} {s : State} {m : MethodId} {args : Array Value} {below : List Frame} {meth : Method} {c : Code} {H : Heap} {locs : List Loc} {cells slots : Nat} {Q : State → Prop} {E : XE} {cc : ByteArray} {nL : Nat} {rt : Option FieldType} {z : XS} {ls : Array Slot} {pc : Nat} {rest : List Value} (hC : xC E RX1 cc nL rt p s m args meth c) (hP : va_P E.1 E.2.1 (xw E z) H) (hdg : decode cc pc = .ok (.getfield 24, 3)) (kk : W p l e R s m args below meth c H locs cells slots Q (F0 m (pc + 3) ls (.ref (E.2.2.1 21) :: rest))) : W p l e R s m args below meth c H locs cells slots Q (F0 m pc ls (.ref (E.2.2.1 2) :: rest)) := x_get hC hP 2 1 4 in_X1 (xw_get E z (k := 2) (by decide)) (xC.c1 hC) (by decide) q188 rfl rfl hdg kk
theorem gS_29_1 {p : Program} {l : Launch} {e : Env} {R : Room} {s : State} {m : MethodId} {args : Array Value} {below : List Frame} {meth : Method} {c : Code} {H : Heap} {locs : List Loc} {cells slots : Nat} {Q : State → Prop} {E : XE} {cc : ByteArray} {nL : Nat} {rt : Option FieldType} {z : XS} {ls : Array Slot} {pc : Nat} {rest : List Value} (hC : xC E RX1 cc nL rt p s m args meth c) (hP : va_P E.1 E.2.1 (xw E z) H) (hdg : decode cc pc = .ok (.getfield 29, 3)) (kk : W p l e R s m args below meth c H locs cells slots Q (F0 m (pc + 3) ls (.ref (E.2.2.1 13) :: rest))) : W p l e R s m args below meth c H locs cells slots Q (F0 m pc ls (.ref (E.2.2.1 1) :: rest)) := x_get hC hP 1 1 5 in_X1 (xw_get E z (k := 1) (by decide)) (xC.c1 hC) (by decide) q190 rfl rfl hdg kk
theorem gS_29_2 {p : Program} {l : Launch} {e : Env} {R : Room} {s : State} {m : MethodId} {args : Array Value} {below : List Frame} {meth : Method} {c : Code} {H : Heap} {locs : List Loc} {cells slots : Nat} {Q : State → Prop} {E : XE} {cc : ByteArray} {nL : Nat} {rt : Option FieldType} {z : XS} {ls : Array Slot} {pc : Nat} {rest : List Value} (hC : xC E RX1 cc nL rt p s m args meth c) (hP : va_P E.1 E.2.1 (xw E z) H) (hdg : decode cc pc = .ok (.getfield 29, 3)) (kk : W p l e R s m args below meth c H locs cells slots Q (F0 m (pc + 3) ls (.ref (E.2.2.1 22) :: rest))) : W p l e R s m args below meth c H locs cells slots Q (F0 m pc ls (.ref (E.2.2.1 2) :: rest)) := x_get hC hP 2 1 5 in_X1 (xw_get E z (k := 2) (by decide)) (xC.c1 hC) (by decide) q190 rfl rfl hdg kk
theorem gS_32_1 {p : Program} {l : Launch} {e : Env} {R : Room} {s : State} {m : MethodId} {args : Array Value} {below : List Frame} {meth : Method} {c : Code} {H : Heap} {locs : List Loc} {cells slots : Nat} {Q : State → Prop} {E : XE} {cc : ByteArray} {nL : Nat} {rt : Option FieldType} {z : XS} {ls : Array Slot} {pc : Nat} {rest : List Value} (hC : xC E RX1 cc nL rt p s m args meth c) (hP : va_P E.1 E.2.1 (xw E z) H) (hdg : decode cc pc = .ok (.getfield 32, 3)) (kk : W p l e R s m args below meth c H locs cells slots Q (F0 m (pc + 3) ls (.ref (E.2.2.1 14) :: rest))) : W p l e R s m args below meth c H locs cells slots Q (F0 m pc ls (.ref (E.2.2.1 1) :: rest)) := x_get hC hP 1 1 6 in_X1 (xw_get E z (k := 1) (by decide)) (xC.c1 hC) (by decide) q192 rfl rfl hdg kk
theorem gS_32_2 {p : Program} {l : Launch} {e : Env} {R : Room} {s : State} {m : MethodId} {args : Array Value} {below : List Frame} {meth : Method} {c : Code} {H : Heap} {locs : List Loc} {cells slots : Nat} {Q : State → Prop} {E : XE} {cc : ByteArray} {nL : Nat} {rt : Option FieldType} {z : XS} {ls : Array Slot} {pc : Nat} {rest : List Value} (hC : xC E RX1 cc nL rt p s m args meth c) (hP : va_P E.1 E.2.1 (xw E z) H) (hdg : decode cc pc = .ok (.getfield 32, 3)) (kk : W p l e R s m args below meth c H locs cells slots Q (F0 m (pc + 3) ls (.ref (E.2.2.1 23) :: rest))) : W p l e R s m args below meth c H locs cells slots Q (F0 m pc ls (.ref (E.2.2.1 2) :: rest)) := x_get hC hP 2 1 6 in_X1 (xw_get E z (k := 2) (by decide)) (xC.c1 hC) (by decide) q192 rfl rfl hdg kk
theorem gS_35_1 {p : Program} {l : Launch} {e : Env} {R : Room} {s : State} {m : MethodId} {args : Array Value} {below : List Frame} {meth : Method} {c : Code} {H : Heap} {locs : List Loc} {cells slots : Nat} {Q : State → Prop} {E : XE} {cc : ByteArray} {nL : Nat} {rt : Option FieldType} {z : XS} {ls : Array Slot} {pc : Nat} {rest : List Value} (hC : xC E RX1 cc nL rt p s m args meth c) (hP : va_P E.1 E.2.1 (xw E z) H) (hdg : decode cc pc = .ok (.getfield 35, 3)) (kk : W p l e R s m args below meth c H locs cells slots Q (F0 m (pc + 3) ls (.ref (E.2.2.1 15) :: rest))) : W p l e R s m args below meth c H locs cells slots Q (F0 m pc ls (.ref (E.2.2.1 1) :: rest)) := x_get hC hP 1 1 7 in_X1 (xw_get E z (k := 1) (by decide)) (xC.c1 hC) (by decide) q194 rfl rfl hdg kk
theorem gS_35_2 {p : Program} {l : Launch} {e : Env} {R : Room} {s : State} {m : MethodId} {args : Array Value} {below : List Frame} {meth : Method} {c : Code} {H : Heap} {locs : List Loc} {cells slots : Nat} {Q : State → Prop} {E : XE} {cc : ByteArray} {nL : Nat} {rt : Option FieldType} {z : XS} {ls : Array Slot} {pc : Nat} {rest : List Value} (hC : xC E RX1 cc nL rt p s m args meth c) (hP : va_P E.1 E.2.1 (xw E z) H) (hdg : decode cc pc = .ok (.getfield 35, 3)) (kk : W p l e R s m args below meth c H locs cells slots Q (F0 m (pc + 3) ls (.ref (E.2.2.1 24) :: rest))) : W p l e R s m args below meth c H locs cells slots Q (F0 m pc ls (.ref (E.2.2.1 2) :: rest)) := x_get hC hP 2 1 7 in_X1 (xw_get E z (k := 2) (by decide)) (xC.c1 hC) (by decide) q194 rfl rfl hdg kk
theorem gS_40_1 {p : Program} {l : Launch} {e : Env} {R : Room} {s : State} {m : MethodId} {args : Array Value} {below : List Frame} {meth : Method} {c : Code} {H : Heap} {locs : List Loc} {cells slots : Nat} {Q : State → Prop} {E : XE} {cc : ByteArray} {nL : Nat} {rt : Option FieldType} {z : XS} {ls : Array Slot} {pc : Nat} {rest : List Value} (hC : xC E RX1 cc nL rt p s m args meth c) (hP : va_P E.1 E.2.1 (xw E z) H) (hdg : decode cc pc = .ok (.getfield 40, 3)) (kk : W p l e R s m args below meth c H locs cells slots Q (F0 m (pc + 3) ls (.ref (E.2.2.1 16) :: rest))) : W p l e R s m args below meth c H locs cells slots Q (F0 m pc ls (.ref (E.2.2.1 1) :: rest)) := x_get hC hP 1 1 8 in_X1 (xw_get E z (k := 1) (by decide)) (xC.c1 hC) (by decide) q196 rfl rfl hdg kk
theorem gS_40_2 {p : Program} {l : Launch} {e : Env} {R : Room} {s : State} {m : MethodId} {args : Array Value} {below : List Frame} {meth : Method} {c : Code} {H : Heap} {locs : List Loc} {cells slots : Nat} {Q : State → Prop} {E : XE} {cc : ByteArray} {nL : Nat} {rt : Option FieldType} {z : XS} {ls : Array Slot} {pc : Nat} {rest : List Value} (hC : xC E RX1 cc nL rt p s m args meth c) (hP : va_P E.1 E.2.1 (xw E z) H) (hdg : decode cc pc = .ok (.getfield 40, 3)) (kk : W p l e R s m args below meth c H locs cells slots Q (F0 m (pc + 3) ls (.ref (E.2.2.1 25) :: rest))) : W p l e R s m args below meth c H locs cells slots Q (F0 m pc ls (.ref (E.2.2.1 2) :: rest)) := x_get hC hP 2 1 8 in_X1 (xw_get E z (k := 2) (by decide)) (xC.c1 hC) (by decide) q196 rfl rfl hdg kk
theorem gN_62_1 {p : Program} {l : Launch} {e : Env} {R : Room} {s : State} {m : MethodId} {args : Array Value} {below : List Frame} {meth : Method} {c : Code} {H : Heap} {locs : List Loc} {cells slots : Nat} {Q : State → Prop} {E : XE} {cc : ByteArray} {nL : Nat} {rt : Option FieldType} {z : XS} {ls : Array Slot} {pc : Nat} {rest : List Value} (hC : xC E RX0 cc nL rt p s m args meth c) (hP : va_P E.1 E.2.1 (xw E z) H) (hdg : decode cc pc = .ok (.getfield 62, 3)) (kk : W p l e R s m args below meth c H locs cells slots Q (F0 m (pc + 3) ls (.ref (E.2.2.1 8) :: rest))) : W p l e R s m args below meth c H locs cells slots Q (F0 m pc ls (.ref (E.2.2.1 1) :: rest)) := x_getN hC hP 1 1 0 in_X1 (xw_get E z (k := 1) (by decide)) (xC.c1 hC) (by decide) nf_RailingsCount_62 rfl rfl hdg kk
theorem gN_62_2 {p : Program} {l : Launch} {e : Env} {R : Room} {s : State} {m : MethodId} {args : Array Value} {below : List Frame} {meth : Method} {c : Code} {H : Heap} {locs : List Loc} {cells slots : Nat} {Q : State → Prop} {E : XE} {cc : ByteArray} {nL : Nat} {rt : Option FieldType} {z : XS} {ls : Array Slot} {pc : Nat} {rest : List Value} (hC : xC E RX0 cc nL rt p s m args meth c) (hP : va_P E.1 E.2.1 (xw E z) H) (hdg : decode cc pc = .ok (.getfield 62, 3)) (kk : W p l e R s m args below meth c H locs cells slots Q (F0 m (pc + 3) ls (.ref (E.2.2.1 17) :: rest))) : W p l e R s m args below meth c H locs cells slots Q (F0 m pc ls (.ref (E.2.2.1 2) :: rest)) := x_getN hC hP 2 1 0 in_X1 (xw_get E z (k := 2) (by decide)) (xC.c1 hC) (by decide) nf_RailingsCount_62 rfl rfl hdg kk
theorem gN_65_1 {p : Program} {l : Launch} {e : Env} {R : Room} {s : State} {m : MethodId} {args : Array Value} {below : List Frame} {meth : Method} {c : Code} {H : Heap} {locs : List Loc} {cells slots : Nat} {Q : State → Prop} {E : XE} {cc : ByteArray} {nL : Nat} {rt : Option FieldType} {z : XS} {ls : Array Slot} {pc : Nat} {rest : List Value} (hC : xC E RX0 cc nL rt p s m args meth c) (hP : va_P E.1 E.2.1 (xw E z) H) (hdg : decode cc pc = .ok (.getfield 65, 3)) (kk : W p l e R s m args below meth c H locs cells slots Q (F0 m (pc + 3) ls (.ref (E.2.2.1 9) :: rest))) : W p l e R s m args below meth c H locs cells slots Q (F0 m pc ls (.ref (E.2.2.1 1) :: rest)) := x_getN hC hP 1 1 1 in_X1 (xw_get E z (k := 1) (by decide)) (xC.c1 hC) (by decide) nf_RailingsCount_65 rfl rfl hdg kk
theorem gN_65_2 {p : Program} {l : Launch} {e : Env} {R : Room} {s : State} {m : MethodId} {args : Array Value} {below : List Frame} {meth : Method} {c : Code} {H : Heap} {locs : List Loc} {cells slots : Nat} {Q : State → Prop} {E : XE} {cc : ByteArray} {nL : Nat} {rt : Option FieldType} {z : XS} {ls : Array Slot} {pc : Nat} {rest : List Value} (hC : xC E RX0 cc nL rt p s m args meth c) (hP : va_P E.1 E.2.1 (xw E z) H) (hdg : decode cc pc = .ok (.getfield 65, 3)) (kk : W p l e R s m args below meth c H locs cells slots Q (F0 m (pc + 3) ls (.ref (E.2.2.1 18) :: rest))) : W p l e R s m args below meth c H locs cells slots Q (F0 m pc ls (.ref (E.2.2.1 2) :: rest)) := x_getN hC hP 2 1 1 in_X1 (xw_get E z (k := 2) (by decide)) (xC.c1 hC) (by decide) nf_RailingsCount_65 rfl rfl hdg kk
theorem gN_76_1 {p : Program} {l : Launch} {e : Env} {R : Room} {s : State} {m : MethodId} {args : Array Value} {below : List Frame} {meth : Method} {c : Code} {H : Heap} {locs : List Loc} {cells slots : Nat} {Q : State → Prop} {E : XE} {cc : ByteArray} {nL : Nat} {rt : Option FieldType} {z : XS} {ls : Array Slot} {pc : Nat} {rest : List Value} (hC : xC E RX0 cc nL rt p s m args meth c) (hP : va_P E.1 E.2.1 (xw E z) H) (hdg : decode cc pc = .ok (.getfield 76, 3)) (kk : W p l e R s m args below meth c H locs cells slots Q (F0 m (pc + 3) ls (.ref (E.2.2.1 10) :: rest))) : W p l e R s m args below meth c H locs cells slots Q (F0 m pc ls (.ref (E.2.2.1 1) :: rest)) := x_getN hC hP 1 1 2 in_X1 (xw_get E z (k := 1) (by decide)) (xC.c1 hC) (by decide) nf_RailingsCount_76 rfl rfl hdg kk
theorem gN_76_2 {p : Program} {l : Launch} {e : Env} {R : Room} {s : State} {m : MethodId} {args : Array Value} {below : List Frame} {meth : Method} {c : Code} {H : Heap} {locs : List Loc} {cells slots : Nat} {Q : State → Prop} {E : XE} {cc : ByteArray} {nL : Nat} {rt : Option FieldType} {z : XS} {ls : Array Slot} {pc : Nat} {rest : List Value} (hC : xC E RX0 cc nL rt p s m args meth c) (hP : va_P E.1 E.2.1 (xw E z) H) (hdg : decode cc pc = .ok (.getfield 76, 3)) (kk : W p l e R s m args below meth c H locs cells slots Q (F0 m (pc + 3) ls (.ref (E.2.2.1 19) :: rest))) : W p l e R s m args below meth c H locs cells slots Q (F0 m pc ls (.ref (E.2.2.1 2) :: rest)) := x_getN hC hP 2 1 2 in_X1 (xw_get E z (k := 2) (by decide)) (xC.c1 hC) (by decide) nf_RailingsCount_76 rfl rfl hdg kk
theorem gN_79_1 {p : Program} {l : Launch} {e : Env} {R : Room} {s : State} {m : MethodId} {args : Array Value} {below : List Frame} {meth : Method} {c : Code} {H : Heap} {locs : List Loc} {cells slots : Nat} {Q : State → Prop} {E : XE} {cc : ByteArray} {nL : Nat} {rt : Option FieldType} {z : XS} {ls : Array Slot} {pc : Nat} {rest : List Value} (hC : xC E RX0 cc nL rt p s m args meth c) (hP : va_P E.1 E.2.1 (xw E z) H) (hdg : decode cc pc = .ok (.getfield 79, 3)) (kk : W p l e R s m args below meth c H locs cells slots Q (F0 m (pc + 3) ls (.ref (E.2.2.1 11) :: rest))) : W p l e R s m args below meth c H locs cells slots Q (F0 m pc ls (.ref (E.2.2.1 1) :: rest)) := x_getN hC hP 1 1 3 in_X1 (xw_get E z (k := 1) (by decide)) (xC.c1 hC) (by decide) nf_RailingsCount_79 rfl rfl hdg kk
theorem gN_79_2 {p : Program} {l : Launch} {e : Env} {R : Room} {s : State} {m : MethodId} {args : Array Value} {below : List Frame} {meth : Method} {c : Code} {H : Heap} {locs : List Loc} {cells slots : Nat} {Q : State → Prop} {E : XE} {cc : ByteArray} {nL : Nat} {rt : Option FieldType} {z : XS} {ls : Array Slot} {pc : Nat} {rest : List Value} (hC : xC E RX0 cc nL rt p s m args meth c) (hP : va_P E.1 E.2.1 (xw E z) H) (hdg : decode cc pc = .ok (.getfield 79, 3)) (kk : W p l e R s m args below meth c H locs cells slots Q (F0 m (pc + 3) ls (.ref (E.2.2.1 20) :: rest))) : W p l e R s m args below meth c H locs cells slots Q (F0 m pc ls (.ref (E.2.2.1 2) :: rest)) := x_getN hC hP 2 1 3 in_X1 (xw_get E z (k := 2) (by decide)) (xC.c1 hC) (by decide) nf_RailingsCount_79 rfl rfl hdg kk
theorem gN_89_1 {p : Program} {l : Launch} {e : Env} {R : Room} {s : State} {m : MethodId} {args : Array Value} {below : List Frame} {meth : Method} {c : Code} {H : Heap} {locs : List Loc} {cells slots : Nat} {Q : State → Prop} {E : XE} {cc : ByteArray} {nL : Nat} {rt : Option FieldType} {z : XS} {ls : Array Slot} {pc : Nat} {rest : List Value} (hC : xC E RX0 cc nL rt p s m args meth c) (hP : va_P E.1 E.2.1 (xw E z) H) (hdg : decode cc pc = .ok (.getfield 89, 3)) (kk : W p l e R s m args below meth c H locs cells slots Q (F0 m (pc + 3) ls (.ref (E.2.2.1 16) :: rest))) : W p l e R s m args below meth c H locs cells slots Q (F0 m pc ls (.ref (E.2.2.1 1) :: rest)) := x_getN hC hP 1 1 8 in_X1 (xw_get E z (k := 1) (by decide)) (xC.c1 hC) (by decide) nf_RailingsCount_89 rfl rfl hdg kk
theorem gN_89_2 {p : Program} {l : Launch} {e : Env} {R : Room} {s : State} {m : MethodId} {args : Array Value} {below : List Frame} {meth : Method} {c : Code} {H : Heap} {locs : List Loc} {cells slots : Nat} {Q : State → Prop} {E : XE} {cc : ByteArray} {nL : Nat} {rt : Option FieldType} {z : XS} {ls : Array Slot} {pc : Nat} {rest : List Value} (hC : xC E RX0 cc nL rt p s m args meth c) (hP : va_P E.1 E.2.1 (xw E z) H) (hdg : decode cc pc = .ok (.getfield 89, 3)) (kk : W p l e R s m args below meth c H locs cells slots Q (F0 m (pc + 3) ls (.ref (E.2.2.1 25) :: rest))) : W p l e R s m args below meth c H locs cells slots Q (F0 m pc ls (.ref (E.2.2.1 2) :: rest)) := x_getN hC hP 2 1 8 in_X1 (xw_get E z (k := 2) (by decide)) (xC.c1 hC) (by decide) nf_RailingsCount_89 rfl rfl hdg kk
theorem gN_259_1 {p : Program} {l : Launch} {e : Env} {R : Room} {s : State} {m : MethodId} {args : Array Value} {below : List Frame} {meth : Method} {c : Code} {H : Heap} {locs : List Loc} {cells slots : Nat} {Q : State → Prop} {E : XE} {cc : ByteArray} {nL : Nat} {rt : Option FieldType} {z : XS} {ls : Array Slot} {pc : Nat} {rest : List Value} (hC : xC E RX0 cc nL rt p s m args meth c) (hP : va_P E.1 E.2.1 (xw E z) H) (hdg : decode cc pc = .ok (.getfield 259, 3)) (kk : W p l e R s m args below meth c H locs cells slots Q (F0 m (pc + 3) ls (.ref (E.2.2.1 15) :: rest))) : W p l e R s m args below meth c H locs cells slots Q (F0 m pc ls (.ref (E.2.2.1 1) :: rest)) := x_getN hC hP 1 1 7 in_X1 (xw_get E z (k := 1) (by decide)) (xC.c1 hC) (by decide) nf_RailingsCount_259 rfl rfl hdg kk
theorem gN_259_2 {p : Program} {l : Launch} {e : Env} {R : Room} {s : State} {m : MethodId} {args : Array Value} {below : List Frame} {meth : Method} {c : Code} {H : Heap} {locs : List Loc} {cells slots : Nat} {Q : State → Prop} {E : XE} {cc : ByteArray} {nL : Nat} {rt : Option FieldType} {z : XS} {ls : Array Slot} {pc : Nat} {rest : List Value} (hC : xC E RX0 cc nL rt p s m args meth c) (hP : va_P E.1 E.2.1 (xw E z) H) (hdg : decode cc pc = .ok (.getfield 259, 3)) (kk : W p l e R s m args below meth c H locs cells slots Q (F0 m (pc + 3) ls (.ref (E.2.2.1 24) :: rest))) : W p l e R s m args below meth c H locs cells slots Q (F0 m pc ls (.ref (E.2.2.1 2) :: rest)) := x_getN hC hP 2 1 7 in_X1 (xw_get E z (k := 2) (by decide)) (xC.c1 hC) (by decide) nf_RailingsCount_259 rfl rfl hdg kk
theorem gN_300_1 {p : Program} {l : Launch} {e : Env} {R : Room} {s : State} {m : MethodId} {args : Array Value} {below : List Frame} {meth : Method} {c : Code} {H : Heap} {locs : List Loc} {cells slots : Nat} {Q : State → Prop} {E : XE} {cc : ByteArray} {nL : Nat} {rt : Option FieldType} {z : XS} {ls : Array Slot} {pc : Nat} {rest : List Value} (hC : xC E RX0 cc nL rt p s m args meth c) (hP : va_P E.1 E.2.1 (xw E z) H) (hdg : decode cc pc = .ok (.getfield 300, 3)) (kk : W p l e R s m args below meth c H locs cells slots Q (F0 m (pc + 3) ls (.ref (E.2.2.1 12) :: rest))) : W p l e R s m args below meth c H locs cells slots Q (F0 m pc ls (.ref (E.2.2.1 1) :: rest)) := x_getN hC hP 1 1 4 in_X1 (xw_get E z (k := 1) (by decide)) (xC.c1 hC) (by decide) nf_RailingsCount_300 rfl rfl hdg kk
theorem gN_300_2 {p : Program} {l : Launch} {e : Env} {R : Room} {s : State} {m : MethodId} {args : Array Value} {below : List Frame} {meth : Method} {c : Code} {H : Heap} {locs : List Loc} {cells slots : Nat} {Q : State → Prop} {E : XE} {cc : ByteArray} {nL : Nat} {rt : Option FieldType} {z : XS} {ls : Array Slot} {pc : Nat} {rest : List Value} (hC : xC E RX0 cc nL rt p s m args meth c) (hP : va_P E.1 E.2.1 (xw E z) H) (hdg : decode cc pc = .ok (.getfield 300, 3)) (kk : W p l e R s m args below meth c H locs cells slots Q (F0 m (pc + 3) ls (.ref (E.2.2.1 21) :: rest))) : W p l e R s m args below meth c H locs cells slots Q (F0 m pc ls (.ref (E.2.2.1 2) :: rest)) := x_getN hC hP 2 1 4 in_X1 (xw_get E z (k := 2) (by decide)) (xC.c1 hC) (by decide) nf_RailingsCount_300 rfl rfl hdg kk
theorem gN_316_1 {p : Program} {l : Launch} {e : Env} {R : Room} {s : State} {m : MethodId} {args : Array Value} {below : List Frame} {meth : Method} {c : Code} {H : Heap} {locs : List Loc} {cells slots : Nat} {Q : State → Prop} {E : XE} {cc : ByteArray} {nL : Nat} {rt : Option FieldType} {z : XS} {ls : Array Slot} {pc : Nat} {rest : List Value} (hC : xC E RX0 cc nL rt p s m args meth c) (hP : va_P E.1 E.2.1 (xw E z) H) (hdg : decode cc pc = .ok (.getfield 316, 3)) (kk : W p l e R s m args below meth c H locs cells slots Q (F0 m (pc + 3) ls (.ref (E.2.2.1 13) :: rest))) : W p l e R s m args below meth c H locs cells slots Q (F0 m pc ls (.ref (E.2.2.1 1) :: rest)) := x_getN hC hP 1 1 5 in_X1 (xw_get E z (k := 1) (by decide)) (xC.c1 hC) (by decide) nf_RailingsCount_316 rfl rfl hdg kk
theorem gN_316_2 {p : Program} {l : Launch} {e : Env} {R : Room} {s : State} {m : MethodId} {args : Array Value} {below : List Frame} {meth : Method} {c : Code} {H : Heap} {locs : List Loc} {cells slots : Nat} {Q : State → Prop} {E : XE} {cc : ByteArray} {nL : Nat} {rt : Option FieldType} {z : XS} {ls : Array Slot} {pc : Nat} {rest : List Value} (hC : xC E RX0 cc nL rt p s m args meth c) (hP : va_P E.1 E.2.1 (xw E z) H) (hdg : decode cc pc = .ok (.getfield 316, 3)) (kk : W p l e R s m args below meth c H locs cells slots Q (F0 m (pc + 3) ls (.ref (E.2.2.1 22) :: rest))) : W p l e R s m args below meth c H locs cells slots Q (F0 m pc ls (.ref (E.2.2.1 2) :: rest)) := x_getN hC hP 2 1 5 in_X1 (xw_get E z (k := 2) (by decide)) (xC.c1 hC) (by decide) nf_RailingsCount_316 rfl rfl hdg kk
theorem gN_364_1 {p : Program} {l : Launch} {e : Env} {R : Room} {s : State} {m : MethodId} {args : Array Value} {below : List Frame} {meth : Method} {c : Code} {H : Heap} {locs : List Loc} {cells slots : Nat} {Q : State → Prop} {E : XE} {cc : ByteArray} {nL : Nat} {rt : Option FieldType} {z : XS} {ls : Array Slot} {pc : Nat} {rest : List Value} (hC : xC E RX0 cc nL rt p s m args meth c) (hP : va_P E.1 E.2.1 (xw E z) H) (hdg : decode cc pc = .ok (.getfield 364, 3)) (kk : W p l e R s m args below meth c H locs cells slots Q (F0 m (pc + 3) ls (.ref (E.2.2.1 14) :: rest))) : W p l e R s m args below meth c H locs cells slots Q (F0 m pc ls (.ref (E.2.2.1 1) :: rest)) := x_getN hC hP 1 1 6 in_X1 (xw_get E z (k := 1) (by decide)) (xC.c1 hC) (by decide) nf_RailingsCount_364 rfl rfl hdg kk
theorem gN_364_2 {p : Program} {l : Launch} {e : Env} {R : Room} {s : State} {m : MethodId} {args : Array Value} {below : List Frame} {meth : Method} {c : Code} {H : Heap} {locs : List Loc} {cells slots : Nat} {Q : State → Prop} {E : XE} {cc : ByteArray} {nL : Nat} {rt : Option FieldType} {z : XS} {ls : Array Slot} {pc : Nat} {rest : List Value} (hC : xC E RX0 cc nL rt p s m args meth c) (hP : va_P E.1 E.2.1 (xw E z) H) (hdg : decode cc pc = .ok (.getfield 364, 3)) (kk : W p l e R s m args below meth c H locs cells slots Q (F0 m (pc + 3) ls (.ref (E.2.2.1 23) :: rest))) : W p l e R s m args below meth c H locs cells slots Q (F0 m pc ls (.ref (E.2.2.1 2) :: rest)) := x_getN hC hP 2 1 6 in_X1 (xw_get E z (k := 2) (by decide)) (xC.c1 hC) (by decide) nf_RailingsCount_364 rfl rfl hdg kk
theorem cdX0_bar : yX0_bar.cls = RX0 ∧ yX0_bar.cls ≠ "java/lang/invoke/MethodHandle" ∧ yX0_bar.cls ≠ "java/lang/invoke/VarHandle" ∧ (parseMethodDescriptor yX0_bar.desc).map (fun d => d.parameters.length) = some 2 := by decide +kernel
theorem cdX0_isPlace : yX0_isPlace.cls ≠ "java/lang/invoke/MethodHandle" ∧ yX0_isPlace.cls ≠ "java/lang/invoke/VarHandle" ∧ (parseMethodDescriptor yX0_isPlace.desc).map (fun d => d.parameters.length) = some 1 := by decide +kernel
theorem cdX0_in : yX0_in.cls ≠ "java/lang/invoke/MethodHandle" ∧ yX0_in.cls ≠ "java/lang/invoke/VarHandle" ∧ (parseMethodDescriptor yX0_in.desc).map (fun d => d.parameters.length) = some 3 := by decide +kernel
theorem cdX0_paint : yX0_paint.cls = RX0 ∧ yX0_paint.cls ≠ "java/lang/invoke/MethodHandle" ∧ yX0_paint.cls ≠ "java/lang/invoke/VarHandle" ∧ (parseMethodDescriptor yX0_paint.desc).map (fun d => d.parameters.length) = some 2 := by decide +kernel
theorem cdX0_child : yX0_child.cls = RX0 ∧ yX0_child.cls ≠ "java/lang/invoke/MethodHandle" ∧ yX0_child.cls ≠ "java/lang/invoke/VarHandle" ∧ (parseMethodDescriptor yX0_child.desc).map (fun d => d.parameters.length) = some 2 := by decide +kernel
theorem cdX0_feed : yX0_feed.cls = RX0 ∧ yX0_feed.cls ≠ "java/lang/invoke/MethodHandle" ∧ yX0_feed.cls ≠ "java/lang/invoke/VarHandle" ∧ (parseMethodDescriptor yX0_feed.desc).map (fun d => d.parameters.length) = some 5 := by decide +kernel
theorem cdX0_put : yX0_put.cls = RX0 ∧ yX0_put.cls ≠ "java/lang/invoke/MethodHandle" ∧ yX0_put.cls ≠ "java/lang/invoke/VarHandle" ∧ (parseMethodDescriptor yX0_put.desc).map (fun d => d.parameters.length) = some 1 := by decide +kernel
theorem cdX0_end : yX0_end.cls = RX0 ∧ yX0_end.cls ≠ "java/lang/invoke/MethodHandle" ∧ yX0_end.cls ≠ "java/lang/invoke/VarHandle" ∧ (parseMethodDescriptor yX0_end.desc).map (fun d => d.parameters.length) = some 1 := by decide +kernel
theorem cdX0_fault : yX0_fault.cls = RX0 ∧ yX0_fault.cls ≠ "java/lang/invoke/MethodHandle" ∧ yX0_fault.cls ≠ "java/lang/invoke/VarHandle" ∧ (parseMethodDescriptor yX0_fault.desc).map (fun d => d.parameters.length) = some 1 := by decide +kernel
theorem cdX0_by : yX0_by.cls = RX0 ∧ yX0_by.cls ≠ "java/lang/invoke/MethodHandle" ∧ yX0_by.cls ≠ "java/lang/invoke/VarHandle" ∧ (parseMethodDescriptor yX0_by.desc).map (fun d => d.parameters.length) = some 1 := by decide +kernel
theorem cdX0_isText : yX0_isText.cls = RX0 ∧ yX0_isText.cls ≠ "java/lang/invoke/MethodHandle" ∧ yX0_isText.cls ≠ "java/lang/invoke/VarHandle" ∧ (parseMethodDescriptor yX0_isText.desc).map (fun d => d.parameters.length) = some 1 := by decide +kernel
theorem cdX0_run : yX0_run.cls = RX0 ∧ yX0_run.cls ≠ "java/lang/invoke/MethodHandle" ∧ yX0_run.cls ≠ "java/lang/invoke/VarHandle" ∧ (parseMethodDescriptor yX0_run.desc).map (fun d => d.parameters.length) = some 2 := by decide +kernel
theorem cdX0_canRun : yX0_canRun.cls = RX0 ∧ yX0_canRun.cls ≠ "java/lang/invoke/MethodHandle" ∧ yX0_canRun.cls ≠ "java/lang/invoke/VarHandle" ∧ (parseMethodDescriptor yX0_canRun.desc).map (fun d => d.parameters.length) = some 1 := by decide +kernel
theorem cdX0_isChild : yX0_isChild.cls = RX0 ∧ yX0_isChild.cls ≠ "java/lang/invoke/MethodHandle" ∧ yX0_isChild.cls ≠ "java/lang/invoke/VarHandle" ∧ (parseMethodDescriptor yX0_isChild.desc).map (fun d => d.parameters.length) = some 1 := by decide +kernel
theorem cdX0_runs : yX0_runs.cls = RX0 ∧ yX0_runs.cls ≠ "java/lang/invoke/MethodHandle" ∧ yX0_runs.cls ≠ "java/lang/invoke/VarHandle" ∧ (parseMethodDescriptor yX0_runs.desc).map (fun d => d.parameters.length) = some 3 := by decide +kernel
theorem cdX0_drawn : yX0_drawn.cls ≠ "java/lang/invoke/MethodHandle" ∧ yX0_drawn.cls ≠ "java/lang/invoke/VarHandle" ∧ (parseMethodDescriptor yX0_drawn.desc).map (fun d => d.parameters.length) = some 2 := by decide +kernel
theorem cdX0_rules : yX0_rules.cls = RX0 ∧ yX0_rules.cls ≠ "java/lang/invoke/MethodHandle" ∧ yX0_rules.cls ≠ "java/lang/invoke/VarHandle" ∧ (parseMethodDescriptor yX0_rules.desc).map (fun d => d.parameters.length) = some 0 := by decide +kernel
theorem cdX0_catchesBy : yX0_catchesBy.cls = RX0 ∧ yX0_catchesBy.cls ≠ "java/lang/invoke/MethodHandle" ∧ yX0_catchesBy.cls ≠ "java/lang/invoke/VarHandle" ∧ (parseMethodDescriptor yX0_catchesBy.desc).map (fun d => d.parameters.length) = some 5 := by decide +kernel
theorem cdX0_namesOf : yX0_namesOf.cls = RX0 ∧ yX0_namesOf.cls ≠ "java/lang/invoke/MethodHandle" ∧ yX0_namesOf.cls ≠ "java/lang/invoke/VarHandle" ∧ (parseMethodDescriptor yX0_namesOf.desc).map (fun d => d.parameters.length) = some 2 := by decide +kernel
theorem cdX0_law : yX0_law.cls = RX0 ∧ yX0_law.cls ≠ "java/lang/invoke/MethodHandle" ∧ yX0_law.cls ≠ "java/lang/invoke/VarHandle" ∧ (parseMethodDescriptor yX0_law.desc).map (fun d => d.parameters.length) = some 3 := by decide +kernel
theorem cdX0_held : yX0_held.cls ≠ "java/lang/invoke/MethodHandle" ∧ yX0_held.cls ≠ "java/lang/invoke/VarHandle" ∧ (parseMethodDescriptor yX0_held.desc).map (fun d => d.parameters.length) = some 3 := by decide +kernel
theorem cdX0_writes : yX0_writes.cls ≠ "java/lang/invoke/MethodHandle" ∧ yX0_writes.cls ≠ "java/lang/invoke/VarHandle" ∧ (parseMethodDescriptor yX0_writes.desc).map (fun d => d.parameters.length) = some 4 := by decide +kernel
theorem cdX0_cut : yX0_cut.cls = RX0 ∧ yX0_cut.cls ≠ "java/lang/invoke/MethodHandle" ∧ yX0_cut.cls ≠ "java/lang/invoke/VarHandle" ∧ (parseMethodDescriptor yX0_cut.desc).map (fun d => d.parameters.length) = some 1 := by decide +kernel
theorem cdX0_isKind : yX0_isKind.cls = RX0 ∧ yX0_isKind.cls ≠ "java/lang/invoke/MethodHandle" ∧ yX0_isKind.cls ≠ "java/lang/invoke/VarHandle" ∧ (parseMethodDescriptor yX0_isKind.desc).map (fun d => d.parameters.length) = some 2 := by decide +kernel
theorem cdX0_kindAt : yX0_kindAt.cls = RX0 ∧ yX0_kindAt.cls ≠ "java/lang/invoke/MethodHandle" ∧ yX0_kindAt.cls ≠ "java/lang/invoke/VarHandle" ∧ (parseMethodDescriptor yX0_kindAt.desc).map (fun d => d.parameters.length) = some 1 := by decide +kernel
theorem cdX0_cuts : yX0_cuts.cls = RX0 ∧ yX0_cuts.cls ≠ "java/lang/invoke/MethodHandle" ∧ yX0_cuts.cls ≠ "java/lang/invoke/VarHandle" ∧ (parseMethodDescriptor yX0_cuts.desc).map (fun d => d.parameters.length) = some 1 := by decide +kernel
theorem cdX0_add : yX0_add.cls = RX0 ∧ yX0_add.cls ≠ "java/lang/invoke/MethodHandle" ∧ yX0_add.cls ≠ "java/lang/invoke/VarHandle" ∧ (parseMethodDescriptor yX0_add.desc).map (fun d => d.parameters.length) = some 1 := by decide +kernel
theorem cdX0_adds : yX0_adds.cls = RX0 ∧ yX0_adds.cls ≠ "java/lang/invoke/MethodHandle" ∧ yX0_adds.cls ≠ "java/lang/invoke/VarHandle" ∧ (parseMethodDescriptor yX0_adds.desc).map (fun d => d.parameters.length) = some 1 := by decide +kernel
theorem cdX0_year : yX0_year.cls = RX0 ∧ yX0_year.cls ≠ "java/lang/invoke/MethodHandle" ∧ yX0_year.cls ≠ "java/lang/invoke/VarHandle" ∧ (parseMethodDescriptor yX0_year.desc).map (fun d => d.parameters.length) = some 1 := by decide +kernel
theorem cdX0_passes : yX0_passes.cls = RX0 ∧ yX0_passes.cls ≠ "java/lang/invoke/MethodHandle" ∧ yX0_passes.cls ≠ "java/lang/invoke/VarHandle" ∧ (parseMethodDescriptor yX0_passes.desc).map (fun d => d.parameters.length) = some 1 := by decide +kernel
theorem cdX0_thickens : yX0_thickens.cls = RX0 ∧ yX0_thickens.cls ≠ "java/lang/invoke/MethodHandle" ∧ yX0_thickens.cls ≠ "java/lang/invoke/VarHandle" ∧ (parseMethodDescriptor yX0_thickens.desc).map (fun d => d.parameters.length) = some 1 := by decide +kernel
theorem cdX0_paintsOf : yX0_paintsOf.cls = RX0 ∧ yX0_paintsOf.cls ≠ "java/lang/invoke/MethodHandle" ∧ yX0_paintsOf.cls ≠ "java/lang/invoke/VarHandle" ∧ (parseMethodDescriptor yX0_paintsOf.desc).map (fun d => d.parameters.length) = some 2 := by decide +kernel
theorem cdX0_played : yX0_played.cls = RX0 ∧ yX0_played.cls ≠ "java/lang/invoke/MethodHandle" ∧ yX0_played.cls ≠ "java/lang/invoke/VarHandle" ∧ (parseMethodDescriptor yX0_played.desc).map (fun d => d.parameters.length) = some 1 := by decide +kernel
theorem cdX0_does : yX0_does.cls = RX0 ∧ yX0_does.cls ≠ "java/lang/invoke/MethodHandle" ∧ yX0_does.cls ≠ "java/lang/invoke/VarHandle" ∧ (parseMethodDescriptor yX0_does.desc).map (fun d => d.parameters.length) = some 1 := by decide +kernel
theorem cdX0_passesAll : yX0_passesAll.cls = RX0 ∧ yX0_passesAll.cls ≠ "java/lang/invoke/MethodHandle" ∧ yX0_passesAll.cls ≠ "java/lang/invoke/VarHandle" ∧ (parseMethodDescriptor yX0_passesAll.desc).map (fun d => d.parameters.length) = some 1 := by decide +kernel
theorem cdX0_ages : yX0_ages.cls = RX0 ∧ yX0_ages.cls ≠ "java/lang/invoke/MethodHandle" ∧ yX0_ages.cls ≠ "java/lang/invoke/VarHandle" ∧ (parseMethodDescriptor yX0_ages.desc).map (fun d => d.parameters.length) = some 2 := by decide +kernel
theorem cdX0_befalls : yX0_befalls.cls = RX0 ∧ yX0_befalls.cls ≠ "java/lang/invoke/MethodHandle" ∧ yX0_befalls.cls ≠ "java/lang/invoke/VarHandle" ∧ (parseMethodDescriptor yX0_befalls.desc).map (fun d => d.parameters.length) = some 1 := by decide +kernel
theorem cdX0_undo : yX0_undo.cls = RX0 ∧ yX0_undo.cls ≠ "java/lang/invoke/MethodHandle" ∧ yX0_undo.cls ≠ "java/lang/invoke/VarHandle" ∧ (parseMethodDescriptor yX0_undo.desc).map (fun d => d.parameters.length) = some 0 := by decide +kernel
theorem cdX0_of : yX0_of.cls = RX0 ∧ yX0_of.cls ≠ "java/lang/invoke/MethodHandle" ∧ yX0_of.cls ≠ "java/lang/invoke/VarHandle" ∧ (parseMethodDescriptor yX0_of.desc).map (fun d => d.parameters.length) = some 2 := by decide +kernel
theorem cdX0_ofBar : yX0_ofBar.cls = RX0 ∧ yX0_ofBar.cls ≠ "java/lang/invoke/MethodHandle" ∧ yX0_ofBar.cls ≠ "java/lang/invoke/VarHandle" ∧ (parseMethodDescriptor yX0_ofBar.desc).map (fun d => d.parameters.length) = some 2 := by decide +kernel
theorem cdX0_catches : yX0_catches.cls = RX0 ∧ yX0_catches.cls ≠ "java/lang/invoke/MethodHandle" ∧ yX0_catches.cls ≠ "java/lang/invoke/VarHandle" ∧ (parseMethodDescriptor yX0_catches.desc).map (fun d => d.parameters.length) = some 3 := by decide +kernel
theorem cdX0_is : yX0_is.cls = RX0 ∧ yX0_is.cls ≠ "java/lang/invoke/MethodHandle" ∧ yX0_is.cls ≠ "java/lang/invoke/VarHandle" ∧ (parseMethodDescriptor yX0_is.desc).map (fun d => d.parameters.length) = some 1 := by decide +kernel
theorem cdX0_barsFrom : yX0_barsFrom.cls = RX0 ∧ yX0_barsFrom.cls ≠ "java/lang/invoke/MethodHandle" ∧ yX0_barsFrom.cls ≠ "java/lang/invoke/VarHandle" ∧ (parseMethodDescriptor yX0_barsFrom.desc).map (fun d => d.parameters.length) = some 2 := by decide +kernel
theorem cdX0_unnumbered : yX0_unnumbered.cls = RX0 ∧ yX0_unnumbered.cls ≠ "java/lang/invoke/MethodHandle" ∧ yX0_unnumbered.cls ≠ "java/lang/invoke/VarHandle" ∧ (parseMethodDescriptor yX0_unnumbered.desc).map (fun d => d.parameters.length) = some 0 := by decide +kernel
theorem cdX0_book : yX0_book.cls = RX0 ∧ yX0_book.cls ≠ "java/lang/invoke/MethodHandle" ∧ yX0_book.cls ≠ "java/lang/invoke/VarHandle" ∧ (parseMethodDescriptor yX0_book.desc).map (fun d => d.parameters.length) = some 2 := by decide +kernel
theorem cdX0_foretold : yX0_foretold.cls = RX0 ∧ yX0_foretold.cls ≠ "java/lang/invoke/MethodHandle" ∧ yX0_foretold.cls ≠ "java/lang/invoke/VarHandle" ∧ (parseMethodDescriptor yX0_foretold.desc).map (fun d => d.parameters.length) = some 2 := by decide +kernel
theorem cdX0_likely : yX0_likely.cls = RX0 ∧ yX0_likely.cls ≠ "java/lang/invoke/MethodHandle" ∧ yX0_likely.cls ≠ "java/lang/invoke/VarHandle" ∧ (parseMethodDescriptor yX0_likely.desc).map (fun d => d.parameters.length) = some 4 := by decide +kernel
theorem cdX0_laysBars : yX0_laysBars.cls = RX0 ∧ yX0_laysBars.cls ≠ "java/lang/invoke/MethodHandle" ∧ yX0_laysBars.cls ≠ "java/lang/invoke/VarHandle" ∧ (parseMethodDescriptor yX0_laysBars.desc).map (fun d => d.parameters.length) = some 1 := by decide +kernel
theorem cdX0_likeOf : yX0_likeOf.cls = RX0 ∧ yX0_likeOf.cls ≠ "java/lang/invoke/MethodHandle" ∧ yX0_likeOf.cls ≠ "java/lang/invoke/VarHandle" ∧ (parseMethodDescriptor yX0_likeOf.desc).map (fun d => d.parameters.length) = some 2 := by decide +kernel
theorem cdX0_oddsAt : yX0_oddsAt.cls = RX0 ∧ yX0_oddsAt.cls ≠ "java/lang/invoke/MethodHandle" ∧ yX0_oddsAt.cls ≠ "java/lang/invoke/VarHandle" ∧ (parseMethodDescriptor yX0_oddsAt.desc).map (fun d => d.parameters.length) = some 2 := by decide +kernel
theorem cdX0_power : yX0_power.cls ≠ "java/lang/invoke/MethodHandle" ∧ yX0_power.cls ≠ "java/lang/invoke/VarHandle" ∧ (parseMethodDescriptor yX0_power.desc).map (fun d => d.parameters.length) = some 2 := by decide +kernel
theorem cdX0_common : yX0_common.cls ≠ "java/lang/invoke/MethodHandle" ∧ yX0_common.cls ≠ "java/lang/invoke/VarHandle" ∧ (parseMethodDescriptor yX0_common.desc).map (fun d => d.parameters.length) = some 2 := by decide +kernel
theorem cdX0_start : yX0_start.cls = RX0 ∧ yX0_start.cls ≠ "java/lang/invoke/MethodHandle" ∧ yX0_start.cls ≠ "java/lang/invoke/VarHandle" ∧ (parseMethodDescriptor yX0_start.desc).map (fun d => d.parameters.length) = some 2 := by decide +kernel
theorem cdX0_mean : yX0_mean.cls = RX0 ∧ yX0_mean.cls ≠ "java/lang/invoke/MethodHandle" ∧ yX0_mean.cls ≠ "java/lang/invoke/VarHandle" ∧ (parseMethodDescriptor yX0_mean.desc).map (fun d => d.parameters.length) = some 3 := by decide +kernel
theorem cdX0_which : yX0_which.cls = RX0 ∧ yX0_which.cls ≠ "java/lang/invoke/MethodHandle" ∧ yX0_which.cls ≠ "java/lang/invoke/VarHandle" ∧ (parseMethodDescriptor yX0_which.desc).map (fun d => d.parameters.length) = some 3 := by decide +kernel
theorem cdX0_likeWithout : yX0_likeWithout.cls = RX0 ∧ yX0_likeWithout.cls ≠ "java/lang/invoke/MethodHandle" ∧ yX0_likeWithout.cls ≠ "java/lang/invoke/VarHandle" ∧ (parseMethodDescriptor yX0_likeWithout.desc).map (fun d => d.parameters.length) = some 4 := by decide +kernel
theorem cdX0_nth : yX0_nth.cls = RX0 ∧ yX0_nth.cls ≠ "java/lang/invoke/MethodHandle" ∧ yX0_nth.cls ≠ "java/lang/invoke/VarHandle" ∧ (parseMethodDescriptor yX0_nth.desc).map (fun d => d.parameters.length) = some 2 := by decide +kernel
theorem cdX0_value : yX0_value.cls = RX0 ∧ yX0_value.cls ≠ "java/lang/invoke/MethodHandle" ∧ yX0_value.cls ≠ "java/lang/invoke/VarHandle" ∧ (parseMethodDescriptor yX0_value.desc).map (fun d => d.parameters.length) = some 2 := by decide +kernel
theorem cdX0_worth : yX0_worth.cls = RX0 ∧ yX0_worth.cls ≠ "java/lang/invoke/MethodHandle" ∧ yX0_worth.cls ≠ "java/lang/invoke/VarHandle" ∧ (parseMethodDescriptor yX0_worth.desc).map (fun d => d.parameters.length) = some 3 := by decide +kernel
theorem cdX0_worthOf : yX0_worthOf.cls = RX0 ∧ yX0_worthOf.cls ≠ "java/lang/invoke/MethodHandle" ∧ yX0_worthOf.cls ≠ "java/lang/invoke/VarHandle" ∧ (parseMethodDescriptor yX0_worthOf.desc).map (fun d => d.parameters.length) = some 2 := by decide +kernel
theorem cdX0_stopsFor : yX0_stopsFor.cls = RX0 ∧ yX0_stopsFor.cls ≠ "java/lang/invoke/MethodHandle" ∧ yX0_stopsFor.cls ≠ "java/lang/invoke/VarHandle" ∧ (parseMethodDescriptor yX0_stopsFor.desc).map (fun d => d.parameters.length) = some 1 := by decide +kernel
theorem cdX0_onOf : yX0_onOf.cls = RX0 ∧ yX0_onOf.cls ≠ "java/lang/invoke/MethodHandle" ∧ yX0_onOf.cls ≠ "java/lang/invoke/VarHandle" ∧ (parseMethodDescriptor yX0_onOf.desc).map (fun d => d.parameters.length) = some 2 := by decide +kernel
theorem cdX0_goesOn : yX0_goesOn.cls = RX0 ∧ yX0_goesOn.cls ≠ "java/lang/invoke/MethodHandle" ∧ yX0_goesOn.cls ≠ "java/lang/invoke/VarHandle" ∧ (parseMethodDescriptor yX0_goesOn.desc).map (fun d => d.parameters.length) = some 3 := by decide +kernel
theorem cdX0_best : yX0_best.cls = RX0 ∧ yX0_best.cls ≠ "java/lang/invoke/MethodHandle" ∧ yX0_best.cls ≠ "java/lang/invoke/VarHandle" ∧ (parseMethodDescriptor yX0_best.desc).map (fun d => d.parameters.length) = some 1 := by decide +kernel
theorem cdX0_tell : yX0_tell.cls = RX0 ∧ yX0_tell.cls ≠ "java/lang/invoke/MethodHandle" ∧ yX0_tell.cls ≠ "java/lang/invoke/VarHandle" ∧ (parseMethodDescriptor yX0_tell.desc).map (fun d => d.parameters.length) = some 3 := by decide +kernel
theorem cdX0_could : yX0_could.cls = RX0 ∧ yX0_could.cls ≠ "java/lang/invoke/MethodHandle" ∧ yX0_could.cls ≠ "java/lang/invoke/VarHandle" ∧ (parseMethodDescriptor yX0_could.desc).map (fun d => d.parameters.length) = some 2 := by decide +kernel
theorem cdX0_canBe : yX0_canBe.cls = RX0 ∧ yX0_canBe.cls ≠ "java/lang/invoke/MethodHandle" ∧ yX0_canBe.cls ≠ "java/lang/invoke/VarHandle" ∧ (parseMethodDescriptor yX0_canBe.desc).map (fun d => d.parameters.length) = some 2 := by decide +kernel
theorem cdX0_barsOf : yX0_barsOf.cls ≠ "java/lang/invoke/MethodHandle" ∧ yX0_barsOf.cls ≠ "java/lang/invoke/VarHandle" ∧ (parseMethodDescriptor yX0_barsOf.desc).map (fun d => d.parameters.length) = some 3 := by decide +kernel
theorem cdX0_ask : yX0_ask.cls = RX0 ∧ yX0_ask.cls ≠ "java/lang/invoke/MethodHandle" ∧ yX0_ask.cls ≠ "java/lang/invoke/VarHandle" ∧ (parseMethodDescriptor yX0_ask.desc).map (fun d => d.parameters.length) = some 1 := by decide +kernel
theorem cdX0_leftBy : yX0_leftBy.cls = RX0 ∧ yX0_leftBy.cls ≠ "java/lang/invoke/MethodHandle" ∧ yX0_leftBy.cls ≠ "java/lang/invoke/VarHandle" ∧ (parseMethodDescriptor yX0_leftBy.desc).map (fun d => d.parameters.length) = some 3 := by decide +kernel
theorem cdX0_sings : yX0_sings.cls = RX0 ∧ yX0_sings.cls ≠ "java/lang/invoke/MethodHandle" ∧ yX0_sings.cls ≠ "java/lang/invoke/VarHandle" ∧ (parseMethodDescriptor yX0_sings.desc).map (fun d => d.parameters.length) = some 3 := by decide +kernel
theorem cdX0_laysCosts : yX0_laysCosts.cls = RX0 ∧ yX0_laysCosts.cls ≠ "java/lang/invoke/MethodHandle" ∧ yX0_laysCosts.cls ≠ "java/lang/invoke/VarHandle" ∧ (parseMethodDescriptor yX0_laysCosts.desc).map (fun d => d.parameters.length) = some 0 := by decide +kernel
theorem cdX0_costBy : yX0_costBy.cls = RX0 ∧ yX0_costBy.cls ≠ "java/lang/invoke/MethodHandle" ∧ yX0_costBy.cls ≠ "java/lang/invoke/VarHandle" ∧ (parseMethodDescriptor yX0_costBy.desc).map (fun d => d.parameters.length) = some 3 := by decide +kernel
theorem cdX0_visits : yX0_visits.cls = RX0 ∧ yX0_visits.cls ≠ "java/lang/invoke/MethodHandle" ∧ yX0_visits.cls ≠ "java/lang/invoke/VarHandle" ∧ (parseMethodDescriptor yX0_visits.desc).map (fun d => d.parameters.length) = some 2 := by decide +kernel
theorem cdX0_meet : yX0_meet.cls = RX0 ∧ yX0_meet.cls ≠ "java/lang/invoke/MethodHandle" ∧ yX0_meet.cls ≠ "java/lang/invoke/VarHandle" ∧ (parseMethodDescriptor yX0_meet.desc).map (fun d => d.parameters.length) = some 4 := by decide +kernel
theorem cdX0_period : yX0_period.cls = RX0 ∧ yX0_period.cls ≠ "java/lang/invoke/MethodHandle" ∧ yX0_period.cls ≠ "java/lang/invoke/VarHandle" ∧ (parseMethodDescriptor yX0_period.desc).map (fun d => d.parameters.length) = some 0 := by decide +kernel
theorem cdX0_isTurn : yX0_isTurn.cls = RX0 ∧ yX0_isTurn.cls ≠ "java/lang/invoke/MethodHandle" ∧ yX0_isTurn.cls ≠ "java/lang/invoke/VarHandle" ∧ (parseMethodDescriptor yX0_isTurn.desc).map (fun d => d.parameters.length) = some 1 := by decide +kernel
theorem cdX0_least : yX0_least.cls = RX0 ∧ yX0_least.cls ≠ "java/lang/invoke/MethodHandle" ∧ yX0_least.cls ≠ "java/lang/invoke/VarHandle" ∧ (parseMethodDescriptor yX0_least.desc).map (fun d => d.parameters.length) = some 0 := by decide +kernel
theorem cdX0_moreFrom : yX0_moreFrom.cls = RX0 ∧ yX0_moreFrom.cls ≠ "java/lang/invoke/MethodHandle" ∧ yX0_moreFrom.cls ≠ "java/lang/invoke/VarHandle" ∧ (parseMethodDescriptor yX0_moreFrom.desc).map (fun d => d.parameters.length) = some 2 := by decide +kernel
theorem cdX0_mirrors : yX0_mirrors.cls = RX0 ∧ yX0_mirrors.cls ≠ "java/lang/invoke/MethodHandle" ∧ yX0_mirrors.cls ≠ "java/lang/invoke/VarHandle" ∧ (parseMethodDescriptor yX0_mirrors.desc).map (fun d => d.parameters.length) = some 0 := by decide +kernel
theorem cdX0_isMirror : yX0_isMirror.cls = RX0 ∧ yX0_isMirror.cls ≠ "java/lang/invoke/MethodHandle" ∧ yX0_isMirror.cls ≠ "java/lang/invoke/VarHandle" ∧ (parseMethodDescriptor yX0_isMirror.desc).map (fun d => d.parameters.length) = some 1 := by decide +kernel
theorem cdX0_longest : yX0_longest.cls = RX0 ∧ yX0_longest.cls ≠ "java/lang/invoke/MethodHandle" ∧ yX0_longest.cls ≠ "java/lang/invoke/VarHandle" ∧ (parseMethodDescriptor yX0_longest.desc).map (fun d => d.parameters.length) = some 2 := by decide +kernel
theorem cdX0_runFrom : yX0_runFrom.cls = RX0 ∧ yX0_runFrom.cls ≠ "java/lang/invoke/MethodHandle" ∧ yX0_runFrom.cls ≠ "java/lang/invoke/VarHandle" ∧ (parseMethodDescriptor yX0_runFrom.desc).map (fun d => d.parameters.length) = some 2 := by decide +kernel
theorem cdX0_arc : yX0_arc.cls = RX0 ∧ yX0_arc.cls ≠ "java/lang/invoke/MethodHandle" ∧ yX0_arc.cls ≠ "java/lang/invoke/VarHandle" ∧ (parseMethodDescriptor yX0_arc.desc).map (fun d => d.parameters.length) = some 1 := by decide +kernel
theorem cdX0_quiet : yX0_quiet.cls = RX0 ∧ yX0_quiet.cls ≠ "java/lang/invoke/MethodHandle" ∧ yX0_quiet.cls ≠ "java/lang/invoke/VarHandle" ∧ (parseMethodDescriptor yX0_quiet.desc).map (fun d => d.parameters.length) = some 1 := by decide +kernel
theorem cdX0_changed : yX0_changed.cls = RX0 ∧ yX0_changed.cls ≠ "java/lang/invoke/MethodHandle" ∧ yX0_changed.cls ≠ "java/lang/invoke/VarHandle" ∧ (parseMethodDescriptor yX0_changed.desc).map (fun d => d.parameters.length) = some 0 := by decide +kernel
theorem cdX0_said : yX0_said.cls = RX0 ∧ yX0_said.cls ≠ "java/lang/invoke/MethodHandle" ∧ yX0_said.cls ≠ "java/lang/invoke/VarHandle" ∧ (parseMethodDescriptor yX0_said.desc).map (fun d => d.parameters.length) = some 3 := by decide +kernel
theorem cdX0_whose : yX0_whose.cls = RX0 ∧ yX0_whose.cls ≠ "java/lang/invoke/MethodHandle" ∧ yX0_whose.cls ≠ "java/lang/invoke/VarHandle" ∧ (parseMethodDescriptor yX0_whose.desc).map (fun d => d.parameters.length) = some 0 := by decide +kernel
theorem cdX0_isLaw : yX0_isLaw.cls = RX0 ∧ yX0_isLaw.cls ≠ "java/lang/invoke/MethodHandle" ∧ yX0_isLaw.cls ≠ "java/lang/invoke/VarHandle" ∧ (parseMethodDescriptor yX0_isLaw.desc).map (fun d => d.parameters.length) = some 1 := by decide +kernel
theorem cdX0_greatest : yX0_greatest.cls = RX0 ∧ yX0_greatest.cls ≠ "java/lang/invoke/MethodHandle" ∧ yX0_greatest.cls ≠ "java/lang/invoke/VarHandle" ∧ (parseMethodDescriptor yX0_greatest.desc).map (fun d => d.parameters.length) = some 0 := by decide +kernel
theorem cdX0_twins : yX0_twins.cls = RX0 ∧ yX0_twins.cls ≠ "java/lang/invoke/MethodHandle" ∧ yX0_twins.cls ≠ "java/lang/invoke/VarHandle" ∧ (parseMethodDescriptor yX0_twins.desc).map (fun d => d.parameters.length) = some 0 := by decide +kernel
theorem cdX0_odd : yX0_odd.cls = RX0 ∧ yX0_odd.cls ≠ "java/lang/invoke/MethodHandle" ∧ yX0_odd.cls ≠ "java/lang/invoke/VarHandle" ∧ (parseMethodDescriptor yX0_odd.desc).map (fun d => d.parameters.length) = some 0 := by decide +kernel
theorem cdX0_thickest : yX0_thickest.cls = RX0 ∧ yX0_thickest.cls ≠ "java/lang/invoke/MethodHandle" ∧ yX0_thickest.cls ≠ "java/lang/invoke/VarHandle" ∧ (parseMethodDescriptor yX0_thickest.desc).map (fun d => d.parameters.length) = some 0 := by decide +kernel
theorem cdX0_ledger : yX0_ledger.cls = RX0 ∧ yX0_ledger.cls ≠ "java/lang/invoke/MethodHandle" ∧ yX0_ledger.cls ≠ "java/lang/invoke/VarHandle" ∧ (parseMethodDescriptor yX0_ledger.desc).map (fun d => d.parameters.length) = some 1 := by decide +kernel
theorem cdX0_image : yX0_image.cls = RX0 ∧ yX0_image.cls ≠ "java/lang/invoke/MethodHandle" ∧ yX0_image.cls ≠ "java/lang/invoke/VarHandle" ∧ (parseMethodDescriptor yX0_image.desc).map (fun d => d.parameters.length) = some 0 := by decide +kernel
theorem cdX0_back : yX0_back.cls = RX0 ∧ yX0_back.cls ≠ "java/lang/invoke/MethodHandle" ∧ yX0_back.cls ≠ "java/lang/invoke/VarHandle" ∧ (parseMethodDescriptor yX0_back.desc).map (fun d => d.parameters.length) = some 0 := by decide +kernel
theorem cdX0_about : yX0_about.cls = RX0 ∧ yX0_about.cls ≠ "java/lang/invoke/MethodHandle" ∧ yX0_about.cls ≠ "java/lang/invoke/VarHandle" ∧ (parseMethodDescriptor yX0_about.desc).map (fun d => d.parameters.length) = some 1 := by decide +kernel
theorem cdX1_be : yX1_be.cls = RX1 ∧ yX1_be.cls ≠ "java/lang/invoke/MethodHandle" ∧ yX1_be.cls ≠ "java/lang/invoke/VarHandle" ∧ (parseMethodDescriptor yX1_be.desc).map (fun d => d.parameters.length) = some 1 := by decide +kernel
theorem cdX1_copy : yX1_copy.cls ≠ "java/lang/invoke/MethodHandle" ∧ yX1_copy.cls ≠ "java/lang/invoke/VarHandle" ∧ (parseMethodDescriptor yX1_copy.desc).map (fun d => d.parameters.length) = some 2 := by decide +kernel
theorem cdX1_copy_2 : yX1_copy_2.cls ≠ "java/lang/invoke/MethodHandle" ∧ yX1_copy_2.cls ≠ "java/lang/invoke/VarHandle" ∧ (parseMethodDescriptor yX1_copy_2.desc).map (fun d => d.parameters.length) = some 2 := by decide +kernel
theorem cdX1_tells : yX1_tells.cls = RX1 ∧ yX1_tells.cls ≠ "java/lang/invoke/MethodHandle" ∧ yX1_tells.cls ≠ "java/lang/invoke/VarHandle" ∧ (parseMethodDescriptor yX1_tells.desc).map (fun d => d.parameters.length) = some 2 := by decide +kernel
theorem cdX1_keeps : yX1_keeps.cls = RX1 ∧ yX1_keeps.cls ≠ "java/lang/invoke/MethodHandle" ∧ yX1_keeps.cls ≠ "java/lang/invoke/VarHandle" ∧ (parseMethodDescriptor yX1_keeps.desc).map (fun d => d.parameters.length) = some 0 := by decide +kernel
theorem cdX1_clears : yX1_clears.cls = RX1 ∧ yX1_clears.cls ≠ "java/lang/invoke/MethodHandle" ∧ yX1_clears.cls ≠ "java/lang/invoke/VarHandle" ∧ (parseMethodDescriptor yX1_clears.desc).map (fun d => d.parameters.length) = some 1 := by decide +kernel
theorem cdX1_adds : yX1_adds.cls = RX1 ∧ yX1_adds.cls ≠ "java/lang/invoke/MethodHandle" ∧ yX1_adds.cls ≠ "java/lang/invoke/VarHandle" ∧ (parseMethodDescriptor yX1_adds.desc).map (fun d => d.parameters.length) = some 5 := by decide +kernel
theorem cdJ8_min : yJ8_min.cls ≠ "java/lang/invoke/MethodHandle" ∧ yJ8_min.cls ≠ "java/lang/invoke/VarHandle" ∧ (parseMethodDescriptor yJ8_min.desc).map (fun d => d.parameters.length) = some 2 := by decide +kernel
theorem cdJ8_max : yJ8_max.cls ≠ "java/lang/invoke/MethodHandle" ∧ yJ8_max.cls ≠ "java/lang/invoke/VarHandle" ∧ (parseMethodDescriptor yJ8_max.desc).map (fun d => d.parameters.length) = some 2 := by decide +kernel
theorem cdJ8_min_2 : yJ8_min_2.cls ≠ "java/lang/invoke/MethodHandle" ∧ yJ8_min_2.cls ≠ "java/lang/invoke/VarHandle" ∧ (parseMethodDescriptor yJ8_min_2.desc).map (fun d => d.parameters.length) = some 2 := by decide +kernel
theorem cdJ8_max_2 : yJ8_max_2.cls ≠ "java/lang/invoke/MethodHandle" ∧ yJ8_max_2.cls ≠ "java/lang/invoke/VarHandle" ∧ (parseMethodDescriptor yJ8_max_2.desc).map (fun d => d.parameters.length) = some 2 := by decide +kernel
theorem cdJ8_abs : yJ8_abs.cls ≠ "java/lang/invoke/MethodHandle" ∧ yJ8_abs.cls ≠ "java/lang/invoke/VarHandle" ∧ (parseMethodDescriptor yJ8_abs.desc).map (fun d => d.parameters.length) = some 1 := by decide +kernel
theorem cdJ15_valueOf : yJ15_valueOf.cls ≠ "java/lang/invoke/MethodHandle" ∧ yJ15_valueOf.cls ≠ "java/lang/invoke/VarHandle" ∧ (parseMethodDescriptor yJ15_valueOf.desc).map (fun d => d.parameters.length) = some 1 := by decide +kernel
theorem cdJ15_bitCount : yJ15_bitCount.cls ≠ "java/lang/invoke/MethodHandle" ∧ yJ15_bitCount.cls ≠ "java/lang/invoke/VarHandle" ∧ (parseMethodDescriptor yJ15_bitCount.desc).map (fun d => d.parameters.length) = some 1 := by decide +kernel
theorem lkX0_3 : GoodIn lw_all (va_wsS RX0 3 yJ8_min_2 (ws_ yJ8_min_2 cJ8_min_2 4 (some .long))) := lw_S q1011 q1003 q135 q1004
theorem lkX0_9 : GoodIn lw_all (va_wsS RX0 9 yJ8_max_2 (ws_ yJ8_max_2 cJ8_max_2 4 (some .long))) := lw_S q1012 q1006 q135 q1007
theorem lkX0_54 : GoodIn lw_all (wsV RX0 54 RX1 yX1_be (ws_ yX1_be cX1_be 2 none)) := lw_V q219 q220 q221 q122 q222
theorem lkX0_58 : GoodIn lw_all (va_wsS RX0 58 yX0_in (ws_ yX0_in cX0_in 3 (some .boolean))) := lw_S q274 q275 q121 q276
theorem lkX0_68 : GoodIn lw_all (va_wsS RX0 68 yX0_isPlace (ws_ yX0_isPlace cX0_isPlace 1 (some .boolean))) := lw_S q271 q272 q121 q273
theorem lkX0_72 : GoodIn lw_all (wsV RX0 72 RX1 yX1_tells (ws_ yX1_tells cX1_tells 4 none)) := lw_V q277 q278 q279 q122 q280
theorem lkX0_85 : GoodIn lw_all (wsV RX0 85 RX0 yX0_put (ws_ yX0_put cX0_put 3 none)) := lw_V q293 q295 qs0 q121 q296
theorem lkX0_108 : GoodIn lw_all (wsV RX0 108 RX0 yX0_isText (ws_ yX0_isText cX0_isText 2 (some .boolean))) := lw_V q858 q860 qs23 q121 q861
theorem lkX0_133 : GoodIn lw_all (va_wsS RX0 133 yX0_held (ws_ yX0_held cX0_held 4 (some .int))) := lw_S q1008 q1009 q121 q1010
theorem lkX0_137 : GoodIn lw_all (wsV RX0 137 RX0 yX0_namesOf (ws_ yX0_namesOf cX0_namesOf 3 none)) := lw_V q895 q897 qs29 q121 q898
theorem lkX0_141 : GoodIn lw_all (wsV RX0 141 RX0 yX0_law (ws_ yX0_law cX0_law 4 (some .int))) := lw_V q900 q902 qs30 q121 q903
theorem lkX0_144 : GoodIn lw_all (wsV RX0 144 RX0 yX0_rules (ws_ yX0_rules cX0_rules 1 (some (.object "RailingsCount$Text")))) := lw_V q885 q887 qs27 q121 q888
theorem lkX0_147 : GoodIn lw_all (va_wsS RX0 147 yX0_drawn (ws_ yX0_drawn cX0_drawn 3 (some .int))) := lw_S q882 q883 q121 q884
theorem lkX0_151 : GoodIn lw_all (wsV RX0 151 RX0 yX0_catchesBy (ws_ yX0_catchesBy cX0_catchesBy 6 (some .int))) := lw_V q891 q893 qs28 q121 q894
theorem lkX0_155 : GoodIn lw_all (va_wsS RX0 155 yX0_writes (ws_ yX0_writes cX0_writes 5 none)) := lw_S q1013 q1014 q121 q1015
theorem lkX0_159 : GoodIn lw_all (wsV RX0 159 RX0 yX0_isChild (ws_ yX0_isChild cX0_isChild 2 (some .boolean))) := lw_V q870 q872 qs25 q121 q873
theorem lkX0_162 : GoodIn lw_all (wsV RX0 162 RX0 yX0_canRun (ws_ yX0_canRun cX0_canRun 2 (some .boolean))) := lw_V q866 q868 qs24 q121 q869
theorem lkX0_165 : GoodIn lw_all (wsV RX0 165 RX1 yX1_keeps (ws_ yX1_keeps cX1_keeps 2 none)) := lw_V q874 q875 q876 q122 q877
theorem lkX0_168 : GoodIn lw_all (wsV RX0 168 RX0 yX0_runs (ws_ yX0_runs cX0_runs 8 (some .int))) := lw_V q878 q880 qs26 q121 q881
theorem lkX0_172 : GoodIn lw_all (wsV RX0 172 RX0 yX0_kindAt (ws_ yX0_kindAt cX0_kindAt 2 (some .int))) := lw_V q1024 q1026 qs32 q121 q1027
theorem lkX0_176 : GoodIn lw_all (wsV RX0 176 RX0 yX0_isKind (ws_ yX0_isKind cX0_isKind 3 (some .boolean))) := lw_V q1020 q1022 qs31 q121 q1023
theorem lkX0_180 : GoodIn lw_all (wsV RX0 180 RX0 yX0_cuts (ws_ yX0_cuts cX0_cuts 2 none)) := lw_V q1028 q1030 qs33 q121 q1031
theorem lkX0_183 : GoodIn lw_all (wsV RX0 183 RX0 yX0_adds (ws_ yX0_adds cX0_adds 2 none)) := lw_V q1036 q1038 qs34 q121 q1039
theorem lkX0_186 : GoodIn lw_all (wsV RX0 186 RX0 yX0_paintsOf (ws_ yX0_paintsOf cX0_paintsOf 3 (some .int))) := lw_V q1052 q1054 qs37 q121 q1055
theorem lkX0_189 : GoodIn lw_all (va_wsS RX0 189 yJ8_min (ws_ yJ8_min cJ8_min 2 (some .int))) := lw_S q1056 q455 q135 q456
theorem lkX0_192 : GoodIn lw_all (wsV RX0 192 RX0 yX0_thickens (ws_ yX0_thickens cX0_thickens 3 none)) := lw_V q1048 q1050 qs36 q121 q1051
theorem lkX0_196 : GoodIn lw_all (wsV RX0 196 RX0 yX0_passes (ws_ yX0_passes cX0_passes 5 (some .int))) := lw_V q1044 q1046 qs35 q121 q1047
theorem lkX0_200 : GoodIn lw_all (wsV RX0 200 RX0 yX0_year (ws_ yX0_year cX0_year 4 (some .int))) := lw_V q1090 q1041 q1042 q121 q1043
theorem lkX0_215 : GoodIn lw_all (wsV RX0 215 RX0 yX0_bar (ws_ yX0_bar cX0_bar 3 (some .boolean))) := lw_V q1080 q268 q269 q121 q270
theorem lkX0_218 : GoodIn lw_all (wsV RX0 218 RX0 yX0_paint (ws_ yX0_paint cX0_paint 3 (some .boolean))) := lw_V q1081 q282 q283 q121 q284
theorem lkX0_221 : GoodIn lw_all (wsV RX0 221 RX0 yX0_child (ws_ yX0_child cX0_child 4 (some .int))) := lw_V q1082 q286 q287 q121 q288
theorem lkX0_224 : GoodIn lw_all (wsV RX0 224 RX0 yX0_run (ws_ yX0_run cX0_run 3 (some .int))) := lw_V q1083 q863 q864 q121 q865
theorem lkX0_227 : GoodIn lw_all (wsV RX0 227 RX0 yX0_cut (ws_ yX0_cut cX0_cut 2 (some .boolean))) := lw_V q1084 q1017 q1018 q121 q1019
theorem lkX0_230 : GoodIn lw_all (wsV RX0 230 RX0 yX0_add (ws_ yX0_add cX0_add 2 (some .boolean))) := lw_V q1085 q1033 q1034 q121 q1035
theorem lkX0_233 : GoodIn lw_all (wsV RX0 233 RX0 yX0_passesAll (ws_ yX0_passesAll cX0_passesAll 3 (some .boolean))) := lw_V q1086 q1088 qs39 q121 q1089
theorem lkX0_249 : GoodIn lw_all (wsV RX0 249 RX0 yX0_does (ws_ yX0_does cX0_does 2 (some .boolean))) := lw_V q1064 q1066 qs38 q121 q1067
theorem lkX0_256 : GoodIn lw_all (wsV RX0 256 RX0 yX0_befalls (ws_ yX0_befalls cX0_befalls 5 none)) := lw_V q1099 q1101 qs40 q121 q1102
theorem lkX0_266 : GoodIn lw_all (wsV RX0 266 RX0 yX0_barsFrom (ws_ yX0_barsFrom cX0_barsFrom 5 (some .int))) := lw_V q1124 q1126 qs41 q121 q1127
theorem lkX0_269 : GoodIn lw_all (wsV RX0 269 RX0 yX0_unnumbered (ws_ yX0_unnumbered cX0_unnumbered 3 (some .int))) := lw_V q1128 q1130 qs42 q121 q1131
theorem lkX0_275 : GoodIn lw_all (wsV RX0 275 RX0 yX0_oddsAt (ws_ yX0_oddsAt cX0_oddsAt 3 (some .int))) := lw_V q1153 q1155 qs45 q121 q1156
theorem lkX0_278 : GoodIn lw_all (va_wsS RX0 278 yX0_common (ws_ yX0_common cX0_common 4 (some .long))) := lw_S q1161 q1162 q121 q1163
theorem lkX0_281 : GoodIn lw_all (va_wsS RX0 281 yX0_power (ws_ yX0_power cX0_power 3 (some .long))) := lw_S q1158 q1159 q121 q1160
theorem lkX0_287 : GoodIn lw_all (wsV RX0 287 RX0 yX0_laysBars (ws_ yX0_laysBars cX0_laysBars 3 none)) := lw_V q1145 q1147 qs43 q121 q1148
theorem lkX0_290 : GoodIn lw_all (wsV RX0 290 RX0 yX0_likeOf (ws_ yX0_likeOf cX0_likeOf 6 (some .long))) := lw_V q1149 q1151 qs44 q121 q1152
theorem lkX0_296 : GoodIn lw_all (wsV RX0 296 RX0 yX0_likeWithout (ws_ yX0_likeWithout cX0_likeWithout 8 (some .long))) := lw_V q1176 q1178 qs46 q121 q1179
theorem lkX0_303 : GoodIn lw_all (wsV RX0 303 RX0 yX0_worthOf (ws_ yX0_worthOf cX0_worthOf 3 (some .long))) := lw_V q1192 q1194 qs47 q121 q1195
theorem lkX0_306 : GoodIn lw_all (wsV RX0 306 RX0 yX0_stopsFor (ws_ yX0_stopsFor cX0_stopsFor 2 (some .long))) := lw_V q1196 q1198 qs48 q121 q1199
theorem lkX0_310 : GoodIn lw_all (wsV RX0 310 RX0 yX0_onOf (ws_ yX0_onOf cX0_onOf 3 (some .long))) := lw_V q1200 q1202 qs49 q121 q1203
theorem lkX0_313 : GoodIn lw_all (wsV RX0 313 RX1 yX1_clears (ws_ yX1_clears cX1_clears 2 (some .int))) := lw_V q1216 q1217 q1218 q122 q1219
theorem lkX0_319 : GoodIn lw_all (wsV RX0 319 RX1 yX1_adds (ws_ yX1_adds cX1_adds 7 (some .int))) := lw_V q1220 q1221 q1222 q122 q1223
theorem lkX0_322 : GoodIn lw_all (va_wsS RX0 322 yJ15_bitCount (ws_ yJ15_bitCount cJ15_bitCount 1 (some .int))) := lw_S q1235 q1236 q153 q1237
theorem lkX0_327 : GoodIn lw_all (va_wsS RX0 327 yX0_barsOf (ws_ yX0_barsOf cX0_barsOf 3 (some .int))) := lw_S q1232 q1233 q121 q1234
theorem lkX0_331 : GoodIn lw_all (va_wsS RX0 331 yJ8_abs (ws_ yJ8_abs cJ8_abs 1 (some .int))) := lw_S q1241 q1242 q135 q1243
theorem lkX0_334 : GoodIn lw_all (wsV RX0 334 RX0 yX0_canBe (ws_ yX0_canBe cX0_canBe 5 (some .boolean))) := lw_V q1228 q1230 qs50 q121 q1231
theorem lkX0_337 : GoodIn lw_all (va_wsS RX0 337 yJ8_max (ws_ yJ8_max cJ8_max 2 (some .int))) := lw_S q1254 q625 q135 q626
theorem lkX0_339 : GoodIn lw_all (wsV RX0 339 RX0 yX0_could (ws_ yX0_could cX0_could 7 (some .int))) := lw_V q1248 q1225 q1226 q121 q1227
theorem lkX0_343 : GoodIn lw_all (wsV RX0 343 RX0 yX0_leftBy (ws_ yX0_leftBy cX0_leftBy 8 (some .int))) := lw_V q1250 q1252 qs51 q121 q1253
theorem lkX0_346 : GoodIn lw_all (wsV RX0 346 RX0 yX0_costBy (ws_ yX0_costBy cX0_costBy 4 (some .int))) := lw_V q1263 q1265 qs53 q121 q1266
theorem lkX0_349 : GoodIn lw_all (wsV RX0 349 RX0 yX0_laysCosts (ws_ yX0_laysCosts cX0_laysCosts 4 none)) := lw_V q1259 q1261 qs52 q121 q1262
theorem lkX0_352 : GoodIn lw_all (wsV RX0 352 RX0 yX0_isTurn (ws_ yX0_isTurn cX0_isTurn 3 (some .boolean))) := lw_V q1279 q1281 qs54 q121 q1282
theorem lkX0_355 : GoodIn lw_all (wsV RX0 355 RX0 yX0_moreFrom (ws_ yX0_moreFrom cX0_moreFrom 5 (some .int))) := lw_V q1287 q1289 qs55 q121 q1290
theorem lkX0_358 : GoodIn lw_all (wsV RX0 358 RX0 yX0_isMirror (ws_ yX0_isMirror cX0_isMirror 3 (some .boolean))) := lw_V q1295 q1297 qs56 q121 q1298
theorem lkX0_361 : GoodIn lw_all (wsV RX0 361 RX0 yX0_runFrom (ws_ yX0_runFrom cX0_runFrom 4 (some .int))) := lw_V q1303 q1305 qs57 q121 q1306
theorem lkX0_367 : GoodIn lw_all (wsV RX0 367 RX0 yX0_isLaw (ws_ yX0_isLaw cX0_isLaw 3 (some .boolean))) := lw_V q1327 q1329 qs58 q121 q1330
theorem lkX1_56 : GoodIn lw_all (va_wsS RX1 56 yX1_copy (ws_ yX1_copy cX1_copy 2 none)) := lw_S q223 q224 q122 q225
theorem lkX1_60 : GoodIn lw_all (va_wsS RX1 60 yX1_copy_2 (ws_ yX1_copy_2 cX1_copy_2 3 none)) := lw_S q229 q230 q122 q231
abbrev rmJ15_bitCount : Room := { frames := 0, cells := 0, slots := 0, locals := 0 }
abbrev rmX0_in : Room := { frames := 0, cells := 0, slots := 0, locals := 0 }
abbrev rmX0_isPlace : Room := { frames := 1, cells := 0, slots := 0, locals := 22 }
abbrev rmX0_held : Room := { frames := 1, cells := 0, slots := 0, locals := 40 }
abbrev rmX0_barsOf : Room := { frames := 1, cells := 0, slots := 0, locals := 20 }
abbrev rmX1_tells : Room := { frames := 0, cells := 0, slots := 0, locals := 0 }
abbrev rmX0_bar : Room := { frames := 2, cells := 0, slots := 0, locals := 42 }
abbrev rmX0_paint : Room := { frames := 2, cells := 0, slots := 0, locals := 42 }
abbrev rmX0_child : Room := { frames := 1, cells := 0, slots := 0, locals := 22 }
abbrev rmX0_put : Room := { frames := 0, cells := 0, slots := 0, locals := 0 }
abbrev rmX0_feed : Room := { frames := 1, cells := 0, slots := 0, locals := 22 }
abbrev rmX0_end : Room := { frames := 1, cells := 0, slots := 0, locals := 22 }
abbrev rmX0_fault : Room := { frames := 0, cells := 0, slots := 0, locals := 0 }
abbrev rmX0_isText : Room := { frames := 1, cells := 0, slots := 0, locals := 22 }
abbrev rmX0_by : Room := { frames := 2, cells := 0, slots := 0, locals := 43 }
abbrev rmX0_isChild : Room := { frames := 1, cells := 0, slots := 0, locals := 22 }
abbrev rmX0_canRun : Room := { frames := 2, cells := 0, slots := 0, locals := 43 }
abbrev rmX1_copy : Room := { frames := 1, cells := 0, slots := 0, locals := 60 }
abbrev rmX1_keeps : Room := { frames := 2, cells := 0, slots := 0, locals := 81 }
abbrev rmX0_drawn_9 : Room := { frames := 0, cells := 0, slots := 0, locals := 0 }
abbrev rmX0_rules : Room := { frames := 0, cells := 0, slots := 0, locals := 0 }
abbrev rmX0_namesOf_9 : Room := { frames := 1, cells := 0, slots := 0, locals := 60 }
abbrev rmX0_law : Room := { frames := 300, cells := 0, slots := 0, locals := 20000 }
abbrev rmX0_catchesBy_9 : Room := { frames := 301, cells := 0, slots := 0, locals := 20023 }
abbrev rmX0_writes_9 : Room := { frames := 1, cells := 1, slots := 4, locals := 60 }
abbrev rmX0_runs_9 : Room := { frames := 302, cells := 1, slots := 4, locals := 20048 }
abbrev rmX0_run : Room := { frames := 303, cells := 1, slots := 4, locals := 20075 }
abbrev rmX0_kindAt : Room := { frames := 0, cells := 0, slots := 0, locals := 0 }
abbrev rmX0_isKind : Room := { frames := 2, cells := 0, slots := 0, locals := 42 }
abbrev rmX0_cuts : Room := { frames := 0, cells := 0, slots := 0, locals := 0 }
abbrev rmX0_cut : Room := { frames := 3, cells := 0, slots := 0, locals := 102 }
abbrev rmX0_adds : Room := { frames := 0, cells := 0, slots := 0, locals := 0 }
abbrev rmX0_add : Room := { frames := 3, cells := 0, slots := 0, locals := 102 }
abbrev rmX0_paintsOf_9 : Room := { frames := 301, cells := 0, slots := 0, locals := 20023 }
abbrev rmX0_thickens_9 : Room := { frames := 302, cells := 0, slots := 0, locals := 20045 }
abbrev rmX0_passes_9 : Room := { frames := 303, cells := 7, slots := 28, locals := 20075 }
abbrev rmX0_year_60 : Room := { frames := 304, cells := 420, slots := 1680, locals := 20099 }
abbrev rmX0_year_1 : Room := { frames := 304, cells := 7, slots := 28, locals := 20099 }
abbrev rmX0_passesAll : Room := { frames := 305, cells := 420, slots := 1680, locals := 20122 }
abbrev rmX0_befalls : Room := { frames := 303, cells := 1, slots := 4, locals := 20075 }
abbrev rmX0_ages : Room := { frames := 304, cells := 280, slots := 1120, locals := 20099 }
abbrev rmX0_undo : Room := { frames := 2, cells := 0, slots := 0, locals := 81 }
abbrev rmX0_of : Room := { frames := 2, cells := 0, slots := 0, locals := 43 }
abbrev rmX0_ofBar : Room := { frames := 302, cells := 0, slots := 0, locals := 20045 }
abbrev rmX0_catches : Room := { frames := 302, cells := 0, slots := 0, locals := 20048 }
abbrev rmX0_barsFrom : Room := { frames := 1, cells := 0, slots := 0, locals := 21 }
abbrev rmX0_unnumbered : Room := { frames := 3, cells := 0, slots := 0, locals := 64 }
abbrev rmX0_is : Room := { frames := 4, cells := 0, slots := 0, locals := 86 }
abbrev rmX0_book : Room := { frames := 1, cells := 0, slots := 0, locals := 22 }
abbrev rmX0_drawn_5 : Room := { frames := 0, cells := 0, slots := 0, locals := 0 }
abbrev rmX0_namesOf_5 : Room := { frames := 1, cells := 0, slots := 0, locals := 60 }
abbrev rmX0_catchesBy_5 : Room := { frames := 301, cells := 0, slots := 0, locals := 20023 }
abbrev rmX0_writes_5 : Room := { frames := 1, cells := 1, slots := 4, locals := 60 }
abbrev rmX0_runs_5 : Room := { frames := 302, cells := 1, slots := 4, locals := 20048 }
abbrev rmX0_paintsOf_5 : Room := { frames := 301, cells := 0, slots := 0, locals := 20023 }
abbrev rmX0_thickens_5 : Room := { frames := 302, cells := 0, slots := 0, locals := 20045 }
abbrev rmX0_passes_5 : Room := { frames := 303, cells := 7, slots := 28, locals := 20075 }
abbrev rmX0_foretold : Room := { frames := 304, cells := 420, slots := 1680, locals := 20099 }
abbrev rmX0_laysBars : Room := { frames := 1, cells := 0, slots := 0, locals := 21 }
abbrev rmX0_oddsAt : Room := { frames := 302, cells := 0, slots := 0, locals := 20048 }
abbrev rmX0_likeOf : Room := { frames := 303, cells := 0, slots := 0, locals := 20070 }
abbrev rmX0_likely : Room := { frames := 304, cells := 0, slots := 0, locals := 20095 }
abbrev rmX0_start : Room := { frames := 304, cells := 0, slots := 0, locals := 20095 }
abbrev rmX0_mean : Room := { frames := 303, cells := 0, slots := 0, locals := 20070 }
abbrev rmX0_likeWithout : Room := { frames := 304, cells := 0, slots := 0, locals := 20095 }
abbrev rmX0_which : Room := { frames := 305, cells := 0, slots := 0, locals := 20122 }
abbrev rmX0_nth : Room := { frames := 2, cells := 0, slots := 0, locals := 43 }
abbrev rmX0_value : Room := { frames := 1, cells := 0, slots := 0, locals := 22 }
abbrev rmX0_stopsFor : Room := { frames := 21, cells := 0, slots := 0, locals := 462 }
abbrev rmX0_worthOf_0 : Room := { frames := 0, cells := 0, slots := 0, locals := 0 }
abbrev rmX0_onOf_1 : Room := { frames := 303, cells := 0, slots := 0, locals := 20070 }
abbrev rmX0_worthOf_1 : Room := { frames := 304, cells := 0, slots := 0, locals := 20092 }
abbrev rmX0_onOf_2 : Room := { frames := 305, cells := 0, slots := 0, locals := 20114 }
abbrev rmX0_worthOf_2 : Room := { frames := 306, cells := 0, slots := 0, locals := 20136 }
abbrev rmX0_onOf_3 : Room := { frames := 307, cells := 0, slots := 0, locals := 20158 }
abbrev rmX0_worthOf_3 : Room := { frames := 308, cells := 0, slots := 0, locals := 20180 }
abbrev rmX0_onOf_4 : Room := { frames := 309, cells := 0, slots := 0, locals := 20202 }
abbrev rmX0_worthOf_4 : Room := { frames := 310, cells := 0, slots := 0, locals := 20224 }
abbrev rmX0_onOf_5 : Room := { frames := 311, cells := 0, slots := 0, locals := 20246 }
abbrev rmX0_worthOf_5 : Room := { frames := 312, cells := 0, slots := 0, locals := 20268 }
abbrev rmX0_onOf_6 : Room := { frames := 313, cells := 0, slots := 0, locals := 20290 }
abbrev rmX0_worthOf_6 : Room := { frames := 314, cells := 0, slots := 0, locals := 20312 }
abbrev rmX0_onOf_7 : Room := { frames := 315, cells := 0, slots := 0, locals := 20334 }
abbrev rmX0_worthOf_7 : Room := { frames := 316, cells := 0, slots := 0, locals := 20356 }
abbrev rmX0_onOf_8 : Room := { frames := 317, cells := 0, slots := 0, locals := 20378 }
abbrev rmX0_worthOf_8 : Room := { frames := 318, cells := 0, slots := 0, locals := 20400 }
abbrev rmX0_onOf_9 : Room := { frames := 319, cells := 0, slots := 0, locals := 20422 }
abbrev rmX0_worthOf_9 : Room := { frames := 320, cells := 0, slots := 0, locals := 20444 }
abbrev rmX0_onOf_10 : Room := { frames := 321, cells := 0, slots := 0, locals := 20466 }
abbrev rmX0_worthOf_10 : Room := { frames := 322, cells := 0, slots := 0, locals := 20488 }
abbrev rmX0_onOf_11 : Room := { frames := 323, cells := 0, slots := 0, locals := 20510 }
abbrev rmX0_worthOf_11 : Room := { frames := 324, cells := 0, slots := 0, locals := 20532 }
abbrev rmX0_onOf_12 : Room := { frames := 325, cells := 0, slots := 0, locals := 20554 }
abbrev rmX0_worthOf_12 : Room := { frames := 326, cells := 0, slots := 0, locals := 20576 }
abbrev rmX0_onOf_13 : Room := { frames := 327, cells := 0, slots := 0, locals := 20598 }
abbrev rmX0_worthOf_13 : Room := { frames := 328, cells := 0, slots := 0, locals := 20620 }
abbrev rmX0_worth : Room := { frames := 329, cells := 0, slots := 0, locals := 20642 }
abbrev rmX0_goesOn : Room := { frames := 328, cells := 0, slots := 0, locals := 20620 }
abbrev rmX0_best : Room := { frames := 329, cells := 0, slots := 0, locals := 20642 }
abbrev rmX1_clears : Room := { frames := 0, cells := 0, slots := 0, locals := 0 }
abbrev rmX1_adds_13 : Room := { frames := 2, cells := 1, slots := 3, locals := 81 }
abbrev rmX0_tell : Room := { frames := 3, cells := 1, slots := 3, locals := 107 }
abbrev rmX0_canBe : Room := { frames := 2, cells := 0, slots := 0, locals := 42 }
abbrev rmX0_could : Room := { frames := 3, cells := 0, slots := 0, locals := 66 }
abbrev rmX0_leftBy : Room := { frames := 40, cells := 1, slots := 13, locals := 2000 }
abbrev rmX0_ask : Room := { frames := 41, cells := 144, slots := 1872, locals := 2027 }
abbrev rmX0_costBy : Room := { frames := 1, cells := 0, slots := 0, locals := 40 }
abbrev rmX0_laysCosts : Room := { frames := 2, cells := 0, slots := 0, locals := 63 }
abbrev rmX0_sings : Room := { frames := 3, cells := 0, slots := 0, locals := 86 }
abbrev rmX0_visits : Room := { frames := 2, cells := 0, slots := 0, locals := 43 }
abbrev rmX0_meet : Room := { frames := 2, cells := 0, slots := 0, locals := 43 }
abbrev rmX0_isTurn : Room := { frames := 1, cells := 0, slots := 0, locals := 21 }
abbrev rmX0_period : Room := { frames := 2, cells := 0, slots := 0, locals := 43 }
abbrev rmX0_moreFrom : Room := { frames := 1, cells := 0, slots := 0, locals := 21 }
abbrev rmX0_least : Room := { frames := 2, cells := 0, slots := 0, locals := 45 }
abbrev rmX0_isMirror : Room := { frames := 1, cells := 0, slots := 0, locals := 21 }
abbrev rmX0_mirrors : Room := { frames := 2, cells := 0, slots := 0, locals := 43 }
abbrev rmX0_runFrom : Room := { frames := 1, cells := 0, slots := 0, locals := 21 }
abbrev rmX0_longest : Room := { frames := 2, cells := 0, slots := 0, locals := 44 }
abbrev rmX0_arc : Room := { frames := 2, cells := 0, slots := 0, locals := 45 }
abbrev rmX0_quiet : Room := { frames := 2, cells := 0, slots := 0, locals := 45 }
abbrev rmX0_changed : Room := { frames := 1, cells := 0, slots := 0, locals := 21 }
abbrev rmX1_adds_14 : Room := { frames := 2, cells := 1, slots := 3, locals := 81 }
abbrev rmX0_said : Room := { frames := 3, cells := 1, slots := 3, locals := 107 }
abbrev rmX0_isLaw : Room := { frames := 302, cells := 0, slots := 0, locals := 20048 }
abbrev rmX0_whose : Room := { frames := 303, cells := 0, slots := 0, locals := 20070 }
abbrev rmX0_greatest : Room := { frames := 0, cells := 0, slots := 0, locals := 0 }
abbrev rmX0_twins : Room := { frames := 3, cells := 0, slots := 0, locals := 64 }
abbrev rmX0_odd : Room := { frames := 3, cells := 0, slots := 0, locals := 64 }
abbrev rmX0_thickest : Room := { frames := 0, cells := 0, slots := 0, locals := 0 }
abbrev rmX0_ledger : Room := { frames := 2, cells := 0, slots := 0, locals := 43 }
abbrev rmX1_copy_2_13_22 : Room := { frames := 2, cells := 0, slots := 0, locals := 81 }
abbrev rmX1_copy_2_14_23 : Room := { frames := 2, cells := 0, slots := 0, locals := 81 }
abbrev rmX1_copy_2_15_24 : Room := { frames := 2, cells := 0, slots := 0, locals := 81 }
abbrev rmX1_be_2_1 : Room := { frames := 3, cells := 0, slots := 0, locals := 103 }
abbrev rmX0_image : Room := { frames := 4, cells := 0, slots := 0, locals := 124 }
abbrev rmX1_copy_2_22_13 : Room := { frames := 2, cells := 0, slots := 0, locals := 81 }
abbrev rmX1_copy_2_23_14 : Room := { frames := 2, cells := 0, slots := 0, locals := 81 }
abbrev rmX1_copy_2_24_15 : Room := { frames := 2, cells := 0, slots := 0, locals := 81 }
abbrev rmX1_be_1_2 : Room := { frames := 3, cells := 0, slots := 0, locals := 103 }
abbrev rmX0_back : Room := { frames := 4, cells := 0, slots := 0, locals := 124 }
abbrev rmX0_about : Room := { frames := 0, cells := 0, slots := 0, locals := 0 }
def fJ15_bitCount (x0 : Int32) : Option Int32 := nm (x0 - (((x0).toUInt32 >>> (((1 : Int32)).toUInt32 &&& Int32.toUInt32 31)).toInt32 &&& (1431655765 : Int32))) fun v_1 => nm ((v_1 &&& (858993459 : Int32)) + (((v_1).toUInt32 >>> (((2 : Int32)).toUInt32 &&& Int32.toUInt32 31)).toInt32 &&& (858993459 : Int32))) fun v_2 => nm ((v_2 + ((v_2).toUInt32 >>> (((4 : Int32)).toUInt32 &&& Int32.toUInt32 31)).toInt32) &&& (252645135 : Int32)) fun v_3 => nm (v_3 + ((v_3).toUInt32 >>> (((8 : Int32)).toUInt32 &&& Int32.toUInt32 31)).toInt32) fun v_4 => nm (v_4 + ((v_4).toUInt32 >>> (((16 : Int32)).toUInt32 &&& Int32.toUInt32 31)).toInt32) fun v_5 => some (v_5 &&& (63 : Int32))
set_option maxHeartbeats 1000000 in
theorem wJ15_bitCount {l : Launch} (x0 : Int32) (y : Int32) (hE : fJ15_bitCount x0 = some y) : sM l yJ15_bitCount (ws_ yJ15_bitCount cJ15_bitCount 1 (some .int)) rmJ15_bitCount [.int x0] (some (.int y)) := by
  refine s_met (own := RJ15) (by decide) rfl (Nat.le_of_ble_eq_true rfl) (fun p e s m args below meth c hC => ?_)
  intro ls hl
  have hx := hC.1
  have hb := hC.2.1
  have hown := hC.2.2.2.2.2.1
  have hts := hC.2.2.2.2.2.2
  have hl : lv_has ls 1 [(0, .int x0)] := hl
  unfold fJ15_bitCount at hE
  refine lv_iload_n hx hb dJ15_bitCount_0 rfl (lv_at hl 0 rfl) ?_
  refine lv_iload_n hx hb dJ15_bitCount_1 rfl (lv_at hl 0 rfl) ?_
  refine lv_iconst (v := 1) hx hb dJ15_bitCount_2 (by decide) ?_
  refine lv_iushr hx hb dJ15_bitCount_3 rfl ?_
  refine lv_ldcw (v := 1431655765) hx hb hown (hts _ q1238) dJ15_bitCount_4 ?_
  refine lv_iand hx hb dJ15_bitCount_7 ?_
  refine lv_isub hx hb dJ15_bitCount_8 ?_
  refine nm_i hE (fun v_1 ev_1 hE => ?_)
  refine lv_istore_n (lv' := [(0, .int v_1)]) hx hb dJ15_bitCount_9 rfl hl (Nat.le_of_ble_eq_true rfl) rfl (fun ls hl => ?_)
  refine lv_iload_n hx hb dJ15_bitCount_10 rfl (lv_at hl 0 rfl) ?_
  refine lv_ldcw (v := 858993459) hx hb hown (hts _ q1239) dJ15_bitCount_11 ?_
  refine lv_iand hx hb dJ15_bitCount_14 ?_
  refine lv_iload_n hx hb dJ15_bitCount_15 rfl (lv_at hl 0 rfl) ?_
  refine lv_iconst (v := 2) hx hb dJ15_bitCount_16 (by decide) ?_
  refine lv_iushr hx hb dJ15_bitCount_17 rfl ?_
  refine lv_ldcw (v := 858993459) hx hb hown (hts _ q1239) dJ15_bitCount_18 ?_
  refine lv_iand hx hb dJ15_bitCount_21 ?_
  refine lv_iadd hx hb dJ15_bitCount_22 ?_
  refine nm_i hE (fun v_2 ev_2 hE => ?_)
  refine lv_istore_n (lv' := [(0, .int v_2)]) hx hb dJ15_bitCount_23 rfl hl (Nat.le_of_ble_eq_true rfl) rfl (fun ls hl => ?_)
  refine lv_iload_n hx hb dJ15_bitCount_24 rfl (lv_at hl 0 rfl) ?_
  refine lv_iload_n hx hb dJ15_bitCount_25 rfl (lv_at hl 0 rfl) ?_
  refine lv_iconst (v := 4) hx hb dJ15_bitCount_26 (by decide) ?_
  refine lv_iushr hx hb dJ15_bitCount_27 rfl ?_
  refine lv_iadd hx hb dJ15_bitCount_28 ?_
  refine lv_ldcw (v := 252645135) hx hb hown (hts _ q1240) dJ15_bitCount_29 ?_
  refine lv_iand hx hb dJ15_bitCount_32 ?_
  refine nm_i hE (fun v_3 ev_3 hE => ?_)
  refine lv_istore_n (lv' := [(0, .int v_3)]) hx hb dJ15_bitCount_33 rfl hl (Nat.le_of_ble_eq_true rfl) rfl (fun ls hl => ?_)
  refine lv_iload_n hx hb dJ15_bitCount_34 rfl (lv_at hl 0 rfl) ?_
  refine lv_iload_n hx hb dJ15_bitCount_35 rfl (lv_at hl 0 rfl) ?_
  refine lv_bipush (v := 8) hx hb dJ15_bitCount_36 (by decide) ?_
  refine lv_iushr hx hb dJ15_bitCount_38 rfl ?_
  refine lv_iadd hx hb dJ15_bitCount_39 ?_
  refine nm_i hE (fun v_4 ev_4 hE => ?_)
  refine lv_istore_n (lv' := [(0, .int v_4)]) hx hb dJ15_bitCount_40 rfl hl (Nat.le_of_ble_eq_true rfl) rfl (fun ls hl => ?_)
  refine lv_iload_n hx hb dJ15_bitCount_41 rfl (lv_at hl 0 rfl) ?_
  refine lv_iload_n hx hb dJ15_bitCount_42 rfl (lv_at hl 0 rfl) ?_
  refine lv_bipush (v := 16) hx hb dJ15_bitCount_43 (by decide) ?_
  refine lv_iushr hx hb dJ15_bitCount_45 rfl ?_
  refine lv_iadd hx hb dJ15_bitCount_46 ?_
  refine nm_i hE (fun v_5 ev_5 hE => ?_)
  refine lv_istore_n (lv' := [(0, .int v_5)]) hx hb dJ15_bitCount_47 rfl hl (Nat.le_of_ble_eq_true rfl) rfl (fun ls hl => ?_)
  refine lv_iload_n hx hb dJ15_bitCount_48 rfl (lv_at hl 0 rfl) ?_
  refine lv_bipush (v := 63) hx hb dJ15_bitCount_49 (by decide) ?_
  refine lv_iand hx hb dJ15_bitCount_51 ?_
  obtain rfl := Option.some.inj hE
  exact s_iret hC dJ15_bitCount_52
def fX0_in (x0 : Int32) (x1 : Int32) (x2 : Int32) : Option Int32 := if x0 < x1 then (some (0 : Int32)) else (if x2 < x0 then (some (0 : Int32)) else (some (1 : Int32)))
set_option maxHeartbeats 1000000 in
theorem wX0_in {l : Launch} (x0 : Int32) (x1 : Int32) (x2 : Int32) (y : Int32) (hE : fX0_in x0 x1 x2 = some y) : sM l yX0_in (ws_ yX0_in cX0_in 3 (some .boolean)) rmX0_in [.int x0, .int x1, .int x2] (some (.int y)) := by
  refine s_met (own := RX0) (by decide) rfl (Nat.le_of_ble_eq_true rfl) (fun p e s m args below meth c hC => ?_)
  intro ls hl
  have hx := hC.1
  have hb := hC.2.1
  have hown := hC.2.2.2.2.2.1
  have hts := hC.2.2.2.2.2.2
  have hl : lv_has ls 3 [(0, .int x0), (1, .int x1), (2, .int x2)] := hl
  unfold fX0_in at hE
  refine lv_iload_n hx hb dX0_in_0 rfl (lv_at hl 0 rfl) ?_
  refine lv_iload_n hx hb dX0_in_1 rfl (lv_at hl 1 rfl) ?_
  refine lv_icmp_lt (tgt := 14) hx hb dX0_in_2 (by decide) (fun c_1 => ?_) (fun c_1 => ?_)
  · have hE := ip c_1 hE
    refine lv_iconst (v := 0) hx hb dX0_in_14 (by decide) ?_
    obtain rfl := Option.some.inj hE
    exact s_zret (v := (0 : Int32)) hC (by decide) dX0_in_15
  · have hE := iq c_1 hE
    refine lv_iload_n hx hb dX0_in_5 rfl (lv_at hl 0 rfl) ?_
    refine lv_iload_n hx hb dX0_in_6 rfl (lv_at hl 2 rfl) ?_
    refine lv_icmp_gt (tgt := 14) hx hb dX0_in_7 (by decide) (fun c_2 => ?_) (fun c_2 => ?_)
    · have hE := ip c_2 hE
      refine lv_iconst (v := 0) hx hb dX0_in_14 (by decide) ?_
      obtain rfl := Option.some.inj hE
      exact s_zret (v := (0 : Int32)) hC (by decide) dX0_in_15
    · have hE := iq c_2 hE
      refine lv_iconst (v := 1) hx hb dX0_in_10 (by decide) ?_
      refine lv_goto (tgt := 15) hx hb dX0_in_11 (by decide) ?_
      obtain rfl := Option.some.inj hE
      exact s_zret (v := (1 : Int32)) hC (by decide) dX0_in_15
def fX0_isPlace (x0 : Int32) : Option Int32 := (fX0_in x0 (0 : Int32) (29 : Int32)).bind fun r_1 => if ¬ r_1 &&& 1 = r_1 then none else some r_1
set_option maxHeartbeats 1000000 in
theorem wX0_isPlace {l : Launch} (x0 : Int32) (y : Int32) (hE : fX0_isPlace x0 = some y) : sM l yX0_isPlace (ws_ yX0_isPlace cX0_isPlace 1 (some .boolean)) rmX0_isPlace [.int x0] (some (.int y)) := by
  refine s_met (own := RX0) (by decide) rfl (Nat.le_of_ble_eq_true rfl) (fun p e s m args below meth c hC => ?_)
  intro ls hl
  have hx := hC.1
  have hb := hC.2.1
  have hown := hC.2.2.2.2.2.1
  have hts := hC.2.2.2.2.2.2
  have hl : lv_has ls 1 [(0, .int x0)] := hl
  unfold fX0_isPlace at hE
  refine lv_iload_n hx hb dX0_isPlace_0 rfl (lv_at hl 0 rfl) ?_
  refine lv_iconst (v := 0) hx hb dX0_isPlace_1 (by decide) ?_
  refine lv_bipush (v := 29) hx hb dX0_isPlace_2 (by decide) ?_
  obtain ⟨r_1, h_1, hE⟩ := ob hE
  refine s_calli [.int x0, .int (0 : Int32), .int (29 : Int32)] hC hl.1 (wX0_in x0 (0 : Int32) (29 : Int32) r_1 h_1) (va_cwS 3 hts lkX0_58 rfl rfl rfl cdX0_in ⟨Nat.le_of_ble_eq_true rfl, Nat.le_of_ble_eq_true rfl⟩) rfl rfl (lv_room (Nat.le_of_ble_eq_true rfl)) ⟨Nat.zero_le _, Nat.zero_le _⟩ dX0_isPlace_4 ?_
  obtain ⟨c_2, hE⟩ := og hE
  obtain rfl := Option.some.inj hE
  exact s_zret hC (Decidable.not_not.mp c_2) dX0_isPlace_7
def fX0_held (x0 : Int64) (x2 : Int32) (x3 : Int32) : Option Int32 := some (if (if x0 < x3.toInt64 then x0 else x3.toInt64) < x2.toInt64 then x2.toInt64 else (if x0 < x3.toInt64 then x0 else x3.toInt64)).toInt32
set_option maxHeartbeats 1000000 in
theorem wX0_held {l : Launch} (x0 : Int64) (x2 : Int32) (x3 : Int32) (y : Int32) (hE : fX0_held x0 x2 x3 = some y) : sM l yX0_held (ws_ yX0_held cX0_held 4 (some .int)) rmX0_held [.long x0, .int x2, .int x3] (some (.int y)) := by
  refine s_met (own := RX0) (by decide) rfl (Nat.le_of_ble_eq_true rfl) (fun p e s m args below meth c hC => ?_)
  intro ls hl
  have hx := hC.1
  have hb := hC.2.1
  have hown := hC.2.2.2.2.2.1
  have hts := hC.2.2.2.2.2.2
  have hl : lv_has ls 4 [(0, .long x0), (2, .int x2), (3, .int x3)] := hl
  unfold fX0_held at hE
  refine lv_iload_n hx hb dX0_held_0 rfl (lv_at hl 1 rfl) ?_
  refine lv_i2l hx hb dX0_held_1 rfl ?_
  refine lv_iload_n hx hb dX0_held_2 rfl (lv_at hl 2 rfl) ?_
  refine lv_i2l hx hb dX0_held_3 rfl ?_
  refine lv_lload_n hx hb dX0_held_4 rfl (lv_at hl 0 rfl) ?_
  refine va_mmin_long hx hb (hC.2.2.2.2.1.trans hl.1.symm) hown (hts _ q1011) (hts _ q1003) (hts _ q135) (hts _ q1004) (Nat.le_of_ble_eq_true rfl) (Nat.le_of_ble_eq_true rfl) (Nat.zero_le _) (Nat.zero_le _) dX0_held_5 ?_
  refine va_mmax_long hx hb (hC.2.2.2.2.1.trans hl.1.symm) hown (hts _ q1012) (hts _ q1006) (hts _ q135) (hts _ q1007) (Nat.le_of_ble_eq_true rfl) (Nat.le_of_ble_eq_true rfl) (Nat.zero_le _) (Nat.zero_le _) dX0_held_8 ?_
  refine lv_l2i hx hb dX0_held_11 rfl ?_
  obtain rfl := Option.some.inj hE
  exact s_iret hC dX0_held_12
abbrev rmX0_power (d : Nat) : Room := { frames := d, cells := 0, slots := 0, locals := d * 22 }
def fX0_power : Nat → Int64 → Int32 → Option Int64
  | 0, _, _ => none
  | d + 1, x0, x2 => if x2 = 0 then (some (1 : Int64)) else ((fX0_power d x0 (x2 - (1 : Int32))).bind fun r_2 => some (x0 * r_2))
set_option maxHeartbeats 1000000 in
theorem wX0_power {l : Launch} : ∀ (d : Nat) (x0 : Int64) (x2 : Int32) (y : Int64) (hE : fX0_power d x0 x2 = some y), sM l yX0_power (ws_ yX0_power cX0_power 3 (some .long)) (rmX0_power d) [.long x0, .int x2] (some (.long y)) := by
  intro d
  induction d with
  | zero =>
    intro x0 x2 y hE
    cases hE
  | succ d ih =>
    intro x0 x2 y hE
    refine s_met (own := RX0) (by decide) rfl (Nat.le_of_ble_eq_true rfl) (fun p e s m args below meth c hC => ?_)
    intro ls hl
    have hx := hC.1
    have hb := hC.2.1
    have hown := hC.2.2.2.2.2.1
    have hts := hC.2.2.2.2.2.2
    have hl : lv_has ls 3 [(0, .long x0), (2, .int x2)] := hl
    unfold fX0_power at hE
    refine lv_iload_n hx hb dX0_power_0 rfl (lv_at hl 1 rfl) ?_
    refine lv_if_ne (tgt := 8) hx hb dX0_power_1 (by decide) (fun c_1 => ?_) (fun c_1 => ?_)
    · have hE := iq c_1 hE
      refine lv_lload_n hx hb dX0_power_8 rfl (lv_at hl 0 rfl) ?_
      refine lv_lload_n hx hb dX0_power_9 rfl (lv_at hl 0 rfl) ?_
      refine lv_iload_n hx hb dX0_power_10 rfl (lv_at hl 1 rfl) ?_
      refine lv_iconst (v := 1) hx hb dX0_power_11 (by decide) ?_
      refine lv_isub hx hb dX0_power_12 ?_
      obtain ⟨r_2, h_2, hE⟩ := ob hE
      refine s_calll [.long x0, .int (x2 - (1 : Int32))] hC hl.1 (ih x0 (x2 - (1 : Int32)) r_2 h_2) (va_cwS 2 hts lkX0_281 rfl rfl rfl cdX0_power ⟨Nat.le_refl _, by show 8 + (3 + 11) + d * 22 ≤ (d + 1) * 22; omega⟩) rfl rfl (lv_room (Nat.le_of_ble_eq_true rfl)) ⟨Nat.le_refl _, Nat.le_refl _⟩ dX0_power_13 ?_
      refine lv_lmul hx hb dX0_power_16 ?_
      obtain rfl := Option.some.inj hE
      exact s_lret hC dX0_power_17
    · have hE := ip c_1 hE
      refine lv_lconst (v := 1) hx hb dX0_power_4 (by decide) ?_
      refine lv_goto (tgt := 17) hx hb dX0_power_5 (by decide) ?_
      obtain rfl := Option.some.inj hE
      exact s_lret hC dX0_power_17
abbrev rmX0_common (d : Nat) : Room := { frames := d, cells := 0, slots := 0, locals := d * 23 }
def fX0_common : Nat → Int64 → Int64 → Option Int64
  | 0, _, _ => none
  | d + 1, x0, x2 => if (lg_cmp x2 (0 : Int64)) = 0 then (some x0) else (if x2 = (0 : Int64) then none else (fX0_common d x2 (x0 - x0 / x2 * x2)).bind fun r_3 => some r_3)
set_option maxHeartbeats 1000000 in
theorem wX0_common {l : Launch} : ∀ (d : Nat) (x0 : Int64) (x2 : Int64) (y : Int64) (hE : fX0_common d x0 x2 = some y), sM l yX0_common (ws_ yX0_common cX0_common 4 (some .long)) (rmX0_common d) [.long x0, .long x2] (some (.long y)) := by
  intro d
  induction d with
  | zero =>
    intro x0 x2 y hE
    cases hE
  | succ d ih =>
    intro x0 x2 y hE
    refine s_met (own := RX0) (by decide) rfl (Nat.le_of_ble_eq_true rfl) (fun p e s m args below meth c hC => ?_)
    intro ls hl
    have hx := hC.1
    have hb := hC.2.1
    have hown := hC.2.2.2.2.2.1
    have hts := hC.2.2.2.2.2.2
    have hl : lv_has ls 4 [(0, .long x0), (2, .long x2)] := hl
    unfold fX0_common at hE
    refine lv_lload_n hx hb dX0_common_0 rfl (lv_at hl 1 rfl) ?_
    refine lv_lconst (v := 0) hx hb dX0_common_1 (by decide) ?_
    refine W.lcmp hx hb dX0_common_2 ?_
    refine lv_if_ne (tgt := 10) hx hb dX0_common_3 (by decide) (fun c_1 => ?_) (fun c_1 => ?_)
    · have hE := iq c_1 hE
      refine lv_lload_n hx hb dX0_common_10 rfl (lv_at hl 1 rfl) ?_
      refine lv_lload_n hx hb dX0_common_11 rfl (lv_at hl 0 rfl) ?_
      refine lv_lload_n hx hb dX0_common_12 rfl (lv_at hl 1 rfl) ?_
      obtain ⟨c_2, hE⟩ := og hE
      refine lv_lrem hx hb dX0_common_13 c_2 ?_
      obtain ⟨r_3, h_3, hE⟩ := ob hE
      refine s_calll [.long x2, .long (x0 - x0 / x2 * x2)] hC hl.1 (ih x2 (x0 - x0 / x2 * x2) r_3 h_3) (va_cwS 2 hts lkX0_278 rfl rfl rfl cdX0_common ⟨Nat.le_refl _, by show 8 + (4 + 11) + d * 23 ≤ (d + 1) * 23; omega⟩) rfl rfl (lv_room (Nat.le_of_ble_eq_true rfl)) ⟨Nat.le_refl _, Nat.le_refl _⟩ dX0_common_14 ?_
      obtain rfl := Option.some.inj hE
      exact s_lret hC dX0_common_17
    · have hE := ip c_1 hE
      refine lv_lload_n hx hb dX0_common_6 rfl (lv_at hl 0 rfl) ?_
      refine lv_goto (tgt := 17) hx hb dX0_common_7 (by decide) ?_
      obtain rfl := Option.some.inj hE
      exact s_lret hC dX0_common_17
def fX0_barsOf (x0 : Int32) (x1 : Int32) (x2 : Int32) : Option Int32 := (fJ15_bitCount ((x0 >>> (x1 &&& 31)) &&& (((1 : Int32) <<< (x2 &&& 31)) - (1 : Int32)))).bind fun r_1 => some r_1
set_option maxHeartbeats 1000000 in
theorem wX0_barsOf {l : Launch} (x0 : Int32) (x1 : Int32) (x2 : Int32) (y : Int32) (hE : fX0_barsOf x0 x1 x2 = some y) : sM l yX0_barsOf (ws_ yX0_barsOf cX0_barsOf 3 (some .int)) rmX0_barsOf [.int x0, .int x1, .int x2] (some (.int y)) := by
  refine s_met (own := RX0) (by decide) rfl (Nat.le_of_ble_eq_true rfl) (fun p e s m args below meth c hC => ?_)
  intro ls hl
  have hx := hC.1
  have hb := hC.2.1
  have hown := hC.2.2.2.2.2.1
  have hts := hC.2.2.2.2.2.2
  have hl : lv_has ls 3 [(0, .int x0), (1, .int x1), (2, .int x2)] := hl
  unfold fX0_barsOf at hE
  refine lv_iload_n hx hb dX0_barsOf_0 rfl (lv_at hl 0 rfl) ?_
  refine lv_iload_n hx hb dX0_barsOf_1 rfl (lv_at hl 1 rfl) ?_
  refine lv_ishr hx hb dX0_barsOf_2 ?_
  refine lv_iconst (v := 1) hx hb dX0_barsOf_3 (by decide) ?_
  refine lv_iload_n hx hb dX0_barsOf_4 rfl (lv_at hl 2 rfl) ?_
  refine lv_ishl hx hb dX0_barsOf_5 ?_
  refine lv_iconst (v := 1) hx hb dX0_barsOf_6 (by decide) ?_
  refine lv_isub hx hb dX0_barsOf_7 ?_
  refine lv_iand hx hb dX0_barsOf_8 ?_
  obtain ⟨r_1, h_1, hE⟩ := ob hE
  refine s_calli [.int ((x0 >>> (x1 &&& 31)) &&& (((1 : Int32) <<< (x2 &&& 31)) - (1 : Int32)))] hC hl.1 (wJ15_bitCount ((x0 >>> (x1 &&& 31)) &&& (((1 : Int32) <<< (x2 &&& 31)) - (1 : Int32))) r_1 h_1) (va_cwS 1 hts lkX0_322 rfl rfl rfl cdJ15_bitCount ⟨Nat.le_of_ble_eq_true rfl, Nat.le_of_ble_eq_true rfl⟩) rfl rfl (lv_room (Nat.le_of_ble_eq_true rfl)) ⟨Nat.zero_le _, Nat.zero_le _⟩ dX0_barsOf_9 ?_
  obtain rfl := Option.some.inj hE
  exact s_iret hC dX0_barsOf_12
